/-! PURE: acts, part 3: written, warmed; undone, the image -/
def wrW (w : Mm) (d : Nat) (i f t n s on but : Int32) : Mm :=
  mup (mup (mup (mup (mup (mup (mup (mup (mup (mup (mup (mup (mup w 16 d i) 17 d f) 18 d t) 19 d n) 20 d s) 21 d on) 22 d but) 23 d (w 0 4)) 24 d 0) 25 d (-1)) 26 d 0) 15 d 0) 0 3 (nI (d + 1))
theorem wrW_0 {w : Mm} {d j : Nat} {i f t n s on but : Int32} (h : j ≠ 3) : wrW w d i f t n s on but 0 j = w 0 j := by
  unfold wrW
  rw [mup_j h]
  iterate 12 rw [mup_r (by decide)]
theorem wrW_03 {w : Mm} {d : Nat} {i f t n s on but : Int32} : wrW w d i f t n s on but 0 3 = nI (d + 1) := mup_s
theorem wrW_r {w : Mm} {d r : Nat} {i f t n s on but : Int32} (h0 : r ≠ 0) (h : r < 15 ∨ 27 ≤ r) : wrW w d i f t n s on but r = w r := by
  unfold wrW
  rw [mup_r h0]
  iterate 12 rw [mup_r (by omega)]
theorem wrW_j {w : Mm} {d r j : Nat} {i f t n s on but : Int32} (h0 : r ≠ 0) (h : j ≠ d) : wrW w d i f t n s on but r j = w r j := by
  have k : ∀ (v : Mm) q x, mup v q d x r j = v r j := fun v q x => by
    by_cases e : r = q
    · subst e; exact mup_j h
    · rw [mup_r e]
  unfold wrW
  rw [mup_r h0]
  iterate 12 rw [k]
theorem wrW_d {w : Mm} {d : Nat} {i f t n s on but : Int32} : wrW w d i f t n s on but 16 d = i ∧ wrW w d i f t n s on but 17 d = f ∧ wrW w d i f t n s on but 18 d = t ∧ wrW w d i f t n s on but 19 d = n ∧ wrW w d i f t n s on but 21 d = on ∧ wrW w d i f t n s on but 22 d = but ∧ wrW w d i f t n s on but 23 d = w 0 4 ∧ wrW w d i f t n s on but 15 d = 0 := by
  unfold wrW
  refine ⟨?_, ?_, ?_, ?_, ?_, ?_, ?_, ?_⟩ <;> simp [mup, upd]
theorem wi_wrW {w : Mm} {d i f t : Nat} {n s on but : Int32} (h : WI w) (hd : d = nD w) (hd8 : d < 8) (hi : i < nK w) (hf : f < nP w) (ht : t < nP w) (hn : isN n 99) (ho : isM on d) (hb : isM but d) (ne : f ≠ t) : WI (wrW w d (nI i) (nI f) (nI t) n s on but) := by
  obtain ⟨e1, e2, e3, e4, e5, e6, e7, e8⟩ := @wrW_d w d (nI i) (nI f) (nI t) n s on but
  have hP := h.P.2
  exact h.newD hd hd8 (fun j hj => wrW_0 hj) wrW_03 (fun r j h0 hh => by
    rcases hh with hh | hh
    · exact wrW_j h0 hh
    · rw [wrW_r h0 hh]) (by rw [e1]; exact ⟨i, hi, rfl⟩) (by rw [e2]; exact ⟨f, hf, rfl⟩) (by rw [e3]; exact ⟨t, ht, rfl⟩) (by rw [e4]; exact hn) (by rw [e5]; exact ho) (by rw [e6]; exact hb) (by rw [e7]; exact h.T) (by rw [e8]; exact Or.inl rfl) (by rw [e2, e3]; exact fun q => ne ((nI_eq (by omega) (by omega)).mp q))
theorem X2_isWritten_s {w : Mm} {d : Nat} {i f t n s : Int32} (hd : w 0 3 = nI d) (hd8 : d < 8) : X2_isWritten w i f t n s = some (wrW w d i f t n s (-1) (-1)) := by
  unfold X2_isWritten
  rw [obs, hd]
  simp only [stoN hd8 (show (8 : Nat) < 2 ^ 31 by decide), obs]
  unfold wrW
  congr 1
  have a4 : ∀ (v : Mm) q x, q ≠ 0 → mup v q d x 0 = v 0 := fun v q x h => mup_r (Ne.symm h)
  rw [a4 _ 22 _ (by decide), a4 _ 21 _ (by decide), a4 _ 20 _ (by decide), a4 _ 19 _ (by decide), a4 _ 18 _ (by decide), a4 _ 17 _ (by decide), a4 _ 16 _ (by decide), a4 _ 15 _ (by decide), a4 _ 26 _ (by decide), a4 _ 25 _ (by decide), a4 _ 24 _ (by decide), a4 _ 23 _ (by decide), a4 _ 22 _ (by decide), a4 _ 21 _ (by decide), a4 _ 20 _ (by decide), a4 _ 19 _ (by decide), a4 _ 18 _ (by decide), a4 _ 17 _ (by decide), a4 _ 16 _ (by decide), hd, nI_1]
theorem T_adds {τ w : Mm} {d : Nat} {i f t n s on but : Int32} (h : WR w (τ 0)) (hd : w 0 3 = nI d) (hd8 : d < 8) : Rn (X7_adds τ i f t n s on but) (fun τ' => Tr τ τ' (wrW w d i f t n s on but)) := by
  unfold X7_adds
  rw [obs, show τ 0 5 = nI d from (h 0 3 (by decide)).symm.trans hd]
  have t1 := Tr.put h (wS8 (r := 16) (by decide) (by decide) hd8) i
  have t2 := t1.tr (Tr.put t1.1 (wS8 (r := 17) (by decide) (by decide) hd8) f)
  have t3 := t2.tr (Tr.put t2.1 (wS8 (r := 18) (by decide) (by decide) hd8) t)
  have t4 := t3.tr (Tr.put t3.1 (wS8 (r := 19) (by decide) (by decide) hd8) n)
  have t5 := t4.tr (Tr.put t4.1 (wS8 (r := 20) (by decide) (by decide) hd8) s)
  have t6 := t5.tr (Tr.put t5.1 (wS8 (r := 21) (by decide) (by decide) hd8) on)
  have t7 := t6.tr (Tr.put t6.1 (wS8 (r := 22) (by decide) (by decide) hd8) but)
  rw [T_lays0 hd8, obs, T_lays1 hd8, obs, T_lays2 hd8, obs, T_lays3 hd8, obs, T_lays4 hd8, obs, T_lays5 hd8, obs, T_lays6 hd8, obs]
  revert t7
  generalize mup (mup (mup (mup (mup (mup (mup τ 0 (wX 16 d) i) 0 (wX 17 d) f) 0 (wX 18 d) t) 0 (wX 19 d) n) 0 (wX 20 d) s) 0 (wX 21 d) on) 0 (wX 22 d) but = τ7
  intro t7
  have a4 : ∀ (v : Mm) q x, q ≠ 0 → mup v q d x 0 = v 0 := fun v q x h => mup_r (Ne.symm h)
  have e6 : τ7 0 6 = w 0 4 := by
    rw [show τ7 0 6 = _ from (t7.1 0 4 (by decide)).symm, a4 _ 22 _ (by decide), a4 _ 21 _ (by decide), a4 _ 20 _ (by decide), a4 _ 19 _ (by decide), a4 _ 18 _ (by decide), a4 _ 17 _ (by decide), a4 _ 16 _ (by decide)]
  have e5 : τ7 0 5 = nI d := by
    rw [show τ7 0 5 = _ from (t7.1 0 3 (by decide)).symm, a4 _ 22 _ (by decide), a4 _ 21 _ (by decide), a4 _ 20 _ (by decide), a4 _ 19 _ (by decide), a4 _ 18 _ (by decide), a4 _ 17 _ (by decide), a4 _ 16 _ (by decide), hd]
  rw [e6]
  have t8 := t7.tr (Tr.put t7.1 (wS8 (r := 23) (by decide) (by decide) hd8) (w 0 4))
  have t9 := t8.tr (Tr.put t8.1 (wS8 (r := 24) (by decide) (by decide) hd8) 0)
  have tA := t9.tr (Tr.put t9.1 (wS8 (r := 25) (by decide) (by decide) hd8) (-1))
  have tB := tA.tr (Tr.put tA.1 (wS8 (r := 26) (by decide) (by decide) hd8) 0)
  have tC := tB.tr (Tr.put tB.1 (wS8 (r := 15) (by decide) (by decide) hd8) 0)
  rw [T_lays7 hd8, obs, T_lays8 hd8, obs, T_lays9 hd8, obs, T_lays10 hd8, obs, T_lays11 hd8, obs]
  have e5' : mup (mup (mup (mup (mup τ7 0 (wX 23 d) (w 0 4)) 0 (wX 24 d) 0) 0 (wX 25 d) (-1)) 0 (wX 26 d) 0) 0 (wX 15 d) 0 0 5 = nI d := by
    have x23 := wX16 (r := 23) (d := d) (by decide) (by decide)
    have x24 := wX16 (r := 24) (d := d) (by decide) (by decide)
    have x25 := wX16 (r := 25) (d := d) (by decide) (by decide)
    have x26 := wX16 (r := 26) (d := d) (by decide) (by decide)
    have x15 := wX15 (d := d)
    rw [mup_j (by omega), mup_j (by omega), mup_j (by omega), mup_j (by omega), mup_j (by omega), e5]
  rw [e5', nI_1, show (5 : Int32) = nI 5 from rfl, stoN (by decide) (by decide), obs]
  exact Rn.mk (tC.tr (Tr.put tC.1 (r := 0) (j := 3) (by decide) (nI (d + 1))))
section AE
variable {Λ : Nat → Nat → (Nat → Int32) → Int32} {Λn : Nat → Int32} {σ : Cs} {τ : Mm}
theorem inB_Cn {a : Int32} {n : Nat} (hn : n ≤ 400) (h : inB a 0 (nI n) = true) : isN a n := by
  obtain ⟨k, h1, h2⟩ := inB_C hn h
  exact ⟨k, h1, h2⟩
theorem S_write (h : Sys Λ Λn σ τ) (a b c n s : Int32) : CallX Λ Λn (cdx [0, 1, 2]) (X1_write σ a b c n s) (X7_write τ a b c n s) := by
  unfold X1_write X7_write X7_write_J25 X7_write_J56
  rw [X1_inkAt_s, T_isInk h.2.1, obs, obs]
  have bad : ∀ (y : Int32) (k : Nat), cdx [0, 1, 2] k = y → ¬ y ≤ 0 → CallX Λ Λn (cdx [0, 1, 2]) (some (.inr (k, σ))) (X7_write_J76 τ a b c n s y) := by
    intro y k hy h0
    unfold X7_write_J76
    rw [obs, if_neg (t01 h0)]
    exact .er0 h hy (fun q => h0 (by rw [q]; decide)) rfl rfl
  have dem : CallX Λ Λn (cdx [0, 1, 2]) (X1_write_J46 σ a b c n s) (X7_write_J76 τ a b c n s 2) := by
    unfold X1_write_J46 X1_write_J47
    rw [show X1_demand 0 = some (some 1) from rfl, obs, Option.elim_some]
    exact bad 2 1 rfl (by decide)
  by_cases c1 : inB a 0 (cw σ 0 0 2 - 1) = true
  · rw [if_pos c1, c1, if_neg b01T, T_isParty h.2.1, obs]
    simp only [Sum.elim_inl]
    rw [obs, uk_self, X1_partyAt_s, obs]
    by_cases c2 : inB b 0 (cw σ 0 0 1 - 1) = true
    · rw [if_pos c2, c2, if_neg b01T, T_isParty h.2.1, obs]
      simp only [Sum.elim_inl]
      rw [obs, uk_self, X1_partyAt_s, obs]
      by_cases c3 : inB c 0 (cw σ 0 0 1 - 1) = true
      · rw [if_pos c3, c3, if_neg b01T]
        simp only [Sum.elim_inl]
        rw [obs, uk_self]
        by_cases c4 : b = c
        · rw [if_pos c4, if_pos c4]
          exact dem
        · rw [if_neg c4, if_neg c4, in_s, isIn_s, obs, obs]
          by_cases c5 : inB n 0 99 = true
          · rw [c5, if_neg b01T, if_neg b01T, in_s, isIn_s, obs, obs]
            by_cases c6 : inB s 0 20 = true
            · rw [c6, if_neg b01T, if_neg b01T, show τ 0 5 = nI (nD (cw σ 0)) from T_n5 h.2.1 h.1]
              unfold X1_write_J47
              rw [show X1_demand 1 = some none from rfl, obs, Option.elim_none, h.1.D.1]
              have hD := h.1.D.2
              unfold X1_write_J67
              by_cases c7 : nD (cw σ 0) = 8
              · rw [c7, if_pos (by decide), if_pos (by decide), show X1_can 0 = some (some 2) from rfl, obs, Option.elim_some]
                exact bad 3 2 rfl (by decide)
              · rw [if_neg (show ¬ (8 : Int32) ≤ nI (nD (cw σ 0)) from nI_ge (b := 8) (by omega) (by decide)), if_neg (show ¬ nI (nD (cw σ 0)) = (8 : Int32) from fun q => c7 ((nI_eq (b := 8) (by omega) (by decide)).mp q)), show X1_can 1 = some none from rfl, obs, Option.elim_none]
                unfold X7_write_J76
                obtain ⟨σ1, τ1, e1, e2, hs, ew, el, et, z⟩ := S_rem (h.t0 0)
                obtain ⟨i, hi, rfl⟩ := inB_K h.1 c1
                obtain ⟨f, hf, rfl⟩ := inB_P h.1 c2
                obtain ⟨t, ht, rfl⟩ := inB_P h.1 c3
                have hd : cw σ1 0 0 3 = nI (nD (cw σ 0)) := by rw [ew]; exact h.1.D.1
                obtain ⟨τ2, e3, t3⟩ := T_adds (i := nI i) (f := nI f) (t := nI t) (n := n) (s := s) (on := -1) (but := -1) hs.2.1 hd (by omega)
                rw [obs, if_pos t00, e2, obs, e3, obs, e1, obs, X2_isWritten_s hd (by omega), obs, obs, cw_cwu]
                have hw : WI (wrW (cw σ1 0) (nD (cw σ 0)) (nI i) (nI f) (nI t) n s (-1) (-1)) := by
                  rw [ew]
                  exact wi_wrW h.1 rfl (by omega) hi hf ht (inB_Cn (n := 99) (by decide) c5) (Or.inl rfl) (Or.inl rfl) (fun e => c4 (by rw [e]))
                refine .ok (hs.wldT hw t3) (by rw [t3.2.2.2.1 0 rfl, z, mup_s]) rfl ?_
                rw [show τ2 0 5 = _ from (t3.1 0 3 (by decide)).symm]
            · rw [nBf c6, if_pos b01F, if_pos b01F]
              exact dem
          · rw [nBf c5, if_pos b01F, if_pos b01F]
            exact dem
      · rw [if_neg c3, nBf c3, if_pos b01F]
        simp only [Sum.elim_inr]
        rw [uk_self]
        exact bad 1 0 rfl (by decide)
    · rw [if_neg c2, nBf c2, if_pos b01F]
      simp only [Sum.elim_inr]
      rw [uk_self]
      exact bad 1 0 rfl (by decide)
  · rw [if_neg c1, nBf c1, if_pos b01F]
    simp only [Sum.elim_inr]
    rw [uk_self]
    exact bad 1 0 rfl (by decide)
/-! undone, the image -/
def CallV (Λ : Nat → Nat → (Nat → Int32) → Int32) (Λn : Nat → Int32) (x1 : Option Cs) (x7 : Option Mm) : Prop := ∃ σ' τ', x1 = some σ' ∧ x7 = some τ' ∧ Sys Λ Λn σ' τ'
theorem S_undo (h : Sys Λ Λn σ τ) : CallI Λ Λn (X1_undo σ) (X7_undo τ) := by
  have h0 := h.t0 0
  obtain ⟨n, u1, u2, u3, u4⟩ := h0.2.2.2.2.1
  unfold X1_undo X7_undo
  rw [obs]
  generalize mup τ 10 0 0 = τ0 at h0 u3 u4
  rw [u2, u3]
  by_cases c : n = 0
  · subst c
    rw [if_pos (show nI 0 = 0 from rfl), if_pos (show nI 0 = 0 from rfl)]
    exact ⟨_, _, _, rfl, rfl, h0⟩
  · obtain ⟨m, rfl⟩ : ∃ m, n = m + 1 := ⟨n - 1, by omega⟩
    have e1 : nI (m + 1) - 1 = nI m := by rw [← nI_1, Int32.add_sub_cancel]
    have ez : ¬ nI (m + 1) = 0 := fun q => c ((nI_eq (b := 0) (by omega) (by decide)).mp q)
    rw [if_neg ez, if_neg ez, e1, obs, show (nI m).toNatClampNeg = m from nI_clamp (by omega)]
    obtain ⟨v1, v2, v3, v4, v5⟩ := u4 m (by omega)
    have cp : loopO (X7_undo_L26) FU (mup τ0 10 6 (nI m), 0) = some (cpM (mup τ0 10 6 (nI m)) 0 0 381 (fun k => τ0 3 (381 * m + k))) := by
      refine cp_loop (mup τ0 10 6 (nI m)) 0 0 381 (fun k => τ0 3 (381 * m + k)) (by decide) (fun i hi => ?_) (fun τ' => ?_)
      · unfold X7_undo_L26
        simp only []
        rw [if_neg (show ¬ (381 : Int32) ≤ nI i from nI_ge (b := 381) hi (by decide)), cpM_r (q := 3) (by decide), cpM_r (q := 10) (by decide), mup_s, mup_r (by decide), show (381 : Int32) = nI 381 from rfl, pk_mul, nI_add, ldN (by omega) (by decide), obs, stoN (by omega) (by decide), obs, nI_1, obs, Nat.zero_add]
      · unfold X7_undo_L26
        exact if_pos (show (381 : Int32) ≤ nI 381 by decide)
    rw [cp, obs]
    unfold clk
    have z := v1.z
    rw [if_pos (show okZ 6 (cw (nuU σ (nI m)) (5 + m) 14) = true ∧ okZ 8 (cw (nuU σ (nI m)) (5 + m) 15) = true from z), obs]
    obtain ⟨h1, h2, h3, h4, -, ⟨ch, l, t1, t2, t3, t4⟩, h7, h8, h9, h10⟩ := h0
    generalize eτ : cpM (mup τ0 10 6 (nI m)) 0 0 381 (fun k => τ0 3 (381 * m + k)) = τ2
    have k0 : ∀ k, k < 381 → τ2 0 k = τ0 3 (381 * m + k) := fun k hk => by rw [← eτ, cpM_in (by omega) (by omega)]; rfl
    have kh : ∀ k, 381 ≤ k → τ2 0 k = τ0 0 k := fun k hk => by rw [← eτ, cpM_out (by omega), mup_r (by decide)]
    have kr : ∀ r, r ≠ 0 → r ≠ 10 → τ2 r = τ0 r := fun r a b => by rw [← eτ, cpM_r a, mup_r b]
    have kj : ∀ j, j ≠ 6 → τ2 10 j = τ0 10 j := fun j a => by rw [← eτ, cpM_r (by decide), mup_j a]
    have k6 : τ2 10 6 = nI m := by rw [← eτ, cpM_r (by decide), mup_s]
    have kl : ∀ i, lawP i → τ2 0 i = τ0 0 i := by
      intro i hi
      rcases hi with rfl | rfl | hi
      · rw [k0 1 (by decide), v4]
      · rw [k0 2 (by decide), v5]
      · exact kh i hi
    have cwn : ∀ i, i ≠ 0 → cw (clu (cwu (nuU σ (nI m)) 0 (cw (nuU σ (nI m)) (5 + m))) 0 (cl (nuU σ (nI m)) (5 + m))) i = cw σ i := fun i hi => cw_cwu_n hi
    have cw0 : cw (clu (cwu (nuU σ (nI m)) 0 (cw (nuU σ (nI m)) (5 + m))) 0 (cl (nuU σ (nI m)) (5 + m))) 0 = cw σ (5 + m) := show (if (0 : Nat) = 0 then cw σ (5 + m) else cw σ 0) = _ from if_pos rfl
    have cln : ∀ i, cl (clu (cwu (nuU σ (nI m)) 0 (cw (nuU σ (nI m)) (5 + m))) 0 (cl (nuU σ (nI m)) (5 + m))) i = cl σ i := fun i => by
      by_cases q : i = 0
      · subst q
        exact (show (if (0 : Nat) = 0 then cl σ (5 + m) else cl σ 0) = cl σ (5 + m) from if_pos rfl).trans v3
      · exact if_neg q
    have con : ∀ r, r ≠ 9 → co (clu (cwu (nuU σ (nI m)) 0 (cw (nuU σ (nI m)) (5 + m))) 0 (cl (nuU σ (nI m)) (5 + m))) r = co σ r := fun r hr => by
      funext j
      exact if_neg (fun q => hr q.1)
    have co9 : co (clu (cwu (nuU σ (nI m)) 0 (cw (nuU σ (nI m)) (5 + m))) 0 (cl (nuU σ (nI m)) (5 + m))) 9 0 = nI m := show (if (9 : Nat) = 9 ∧ (0 : Nat) = 0 then nI m else co σ 9 0) = nI m from if_pos ⟨rfl, rfl⟩
    generalize clu (cwu (nuU σ (nI m)) 0 (cw (nuU σ (nI m)) (5 + m))) 0 (cl (nuU σ (nI m)) (5 + m)) = σ2 at cwn cw0 cln con co9
    refine ⟨_, _, _, rfl, rfl, by rw [cw0]; exact v1, by rw [cw0]; exact v2.congr k0, by rw [cln 0]; exact h3.congr kl, ?_, ⟨m, by omega, co9, k6, fun i hi => ?_⟩, ⟨ch, l, t1, by rw [con 1 (by decide)]; exact t2, (kj 8 (by decide)).trans t3, fun k hk => ?_⟩, by rw [con 1 (by decide), kj 12 (by decide)]; exact h7, (kj 19 (by decide)).trans h8, by rw [kj 15 (by decide)]; exact h9, by rw [kj 16 (by decide)]; exact h10⟩
    · unfold Img
      rw [con 0 (by decide), kj 3 (by decide), cwn 2 (by decide), cln 2, kr 1 (by decide) (by decide), imM_e (kr 1 (by decide) (by decide)) (fun i hi => kh i (by omega))]
      exact h4
    · rw [cwn _ (by omega), cln, cln, kr 3 (by decide) (by decide), kl 1 (Or.inl rfl), kl 2 (Or.inr (Or.inl rfl))]
      exact u4 i (by omega)
    · rw [con 2 (by decide), kr 4 (by decide) (by decide)]
      exact t4 k hk
theorem S_image (h : Sys Λ Λn σ τ) : CallV Λ Λn (X1_image σ) (X7_image τ) := by
  have h0 := h.t0 0
  unfold X1_image X7_image
  rw [obs, obs]
  generalize mup τ 10 0 0 = τ0 at h0
  have cp : loopO (X7_image_L7) FU (τ0, 0) = some (cpM τ0 1 0 781 (τ0 0)) := by
    refine cp_loop τ0 1 0 781 (τ0 0) (by decide) (fun i hi => ?_) (fun τ' => ?_)
    · unfold X7_image_L7
      simp only []
      rw [if_neg (show ¬ (781 : Int32) ≤ nI i from nI_ge (b := 781) hi (by decide)), cpM_r (q := 0) (by decide), ldN (by omega) (by decide), obs, stoN (by omega) (by decide), obs, nI_1, obs, Nat.zero_add]
    · unfold X7_image_L7
      exact if_pos (show (781 : Int32) ≤ nI 781 by decide)
  rw [cp, obs, obs]
  unfold clk
  rw [if_pos (show okZ 6 (cw (cou σ (mup (co σ) 0 3 1)) 0 14) = true ∧ okZ 8 (cw (cou σ (mup (co σ) 0 3 1)) 0 15) = true from h.1.z), obs]
  obtain ⟨h1, h2, h3, h4, ⟨n, u1, u2, u3, u4⟩, ⟨ch, l, t1, t2, t3, t4⟩, h7, h8, h9, h10⟩ := h0
  generalize eτ : mup (cpM τ0 1 0 781 (τ0 0)) 10 3 1 = τ2
  have kr : ∀ r, r ≠ 1 → r ≠ 10 → τ2 r = τ0 r := fun r a b => by rw [← eτ, mup_r b, cpM_r a]
  have kj : ∀ j, j ≠ 3 → τ2 10 j = τ0 10 j := fun j a => by rw [← eτ, mup_j a, cpM_r (by decide)]
  have k3 : τ2 10 3 = 1 := by rw [← eτ, mup_s]
  have k1 : ∀ k, k < 781 → τ2 1 k = τ0 0 k := fun k hk => by rw [← eτ, mup_r (by decide), cpM_in (by omega) (by omega)]; rfl
  have ki : imM τ2 = τ0 0 := by
    funext i
    unfold imM
    by_cases q : i < 781
    · rw [if_pos q, k1 i q]
    · rw [if_neg q, kr 0 (by decide) (by decide)]
  have cwn : ∀ i, i ≠ 2 → cw (clu (cwu (cou σ (mup (co σ) 0 3 1)) 2 (cw (cou σ (mup (co σ) 0 3 1)) 0)) 2 (cl (cou σ (mup (co σ) 0 3 1)) 0)) i = cw σ i := fun i hi => cw_cwu_n hi
  have cw2 : cw (clu (cwu (cou σ (mup (co σ) 0 3 1)) 2 (cw (cou σ (mup (co σ) 0 3 1)) 0)) 2 (cl (cou σ (mup (co σ) 0 3 1)) 0)) 2 = cw σ 0 := show (if (2 : Nat) = 2 then cw σ 0 else cw σ 2) = _ from if_pos rfl
  have cln : ∀ i, i ≠ 2 → cl (clu (cwu (cou σ (mup (co σ) 0 3 1)) 2 (cw (cou σ (mup (co σ) 0 3 1)) 0)) 2 (cl (cou σ (mup (co σ) 0 3 1)) 0)) i = cl σ i := fun i hi => if_neg hi
  have cl2 : cl (clu (cwu (cou σ (mup (co σ) 0 3 1)) 2 (cw (cou σ (mup (co σ) 0 3 1)) 0)) 2 (cl (cou σ (mup (co σ) 0 3 1)) 0)) 2 = cl σ 0 := show (if (2 : Nat) = 2 then cl σ 0 else cl σ 2) = _ from if_pos rfl
  have con : co (clu (cwu (cou σ (mup (co σ) 0 3 1)) 2 (cw (cou σ (mup (co σ) 0 3 1)) 0)) 2 (cl (cou σ (mup (co σ) 0 3 1)) 0)) = mup (co σ) 0 3 1 := rfl
  generalize clu (cwu (cou σ (mup (co σ) 0 3 1)) 2 (cw (cou σ (mup (co σ) 0 3 1)) 0)) 2 (cl (cou σ (mup (co σ) 0 3 1)) 0) = σ2 at cwn cw2 cln cl2 con
  refine ⟨_, _, rfl, rfl, by rw [cwn 0 (by decide)]; exact h1, by rw [cwn 0 (by decide), kr 0 (by decide) (by decide)]; exact h2, by rw [cln 0 (by decide), kr 0 (by decide) (by decide)]; exact h3, Or.inr ⟨by rw [con, mup_s], k3, by rw [cw2]; exact h1, by rw [cw2]; exact h2.congr (fun i hi => k1 i (by omega)), by rw [cl2, ki]; exact h3⟩, ⟨n, u1, by rw [con, mup_r (by decide)]; exact u2, (kj 6 (by decide)).trans u3, fun i hi => ?_⟩, ⟨ch, l, t1, by rw [con, mup_r (by decide)]; exact t2, (kj 8 (by decide)).trans t3, fun k hk => ?_⟩, by rw [con, mup_r (by decide), kj 12 (by decide)]; exact h7, (kj 19 (by decide)).trans h8, by rw [kj 15 (by decide)]; exact h9, by rw [kj 16 (by decide)]; exact h10⟩
  · rw [cwn _ (by omega), cln _ (by omega), cln 0 (by decide), kr 3 (by decide) (by decide), kr 0 (by decide) (by decide)]
    exact u4 i hi
  · rw [con, mup_r (by decide), kr 4 (by decide) (by decide)]
    exact t4 k hk
theorem S_back (h : Sys Λ Λn σ τ) : CallX Λ Λn (fun _ => 0) (X1_back σ) (X7_back τ) := by
  have h0 := h.t0 0
  have z0 : mup τ 10 0 0 10 0 = 0 := mup_s
  unfold X1_back X7_back
  rw [obs]
  generalize mup τ 10 0 0 = τ0 at h0 z0
  have hh := h0
  obtain ⟨h1, h2, h3, h4, ⟨n, u1, u2, u3, u4⟩, ⟨ch, l, t1, t2, t3, t4⟩, h7, h8, h9, h10⟩ := h0
  rcases h4 with ⟨g1, g2⟩ | ⟨g1, g2, g3, g4, g5⟩
  · rw [if_pos g1, if_pos g2]
    exact .ok hh z0 rfl rfl
  · rw [if_neg (show ¬ co σ 0 3 = 0 by rw [g1]; decide), if_neg (show ¬ τ0 10 3 = 0 by rw [g2]; decide)]
    have cp : loopO (X7_back_L16) FU (τ0, 0) = some (cpM τ0 0 0 781 (τ0 1)) := by
      refine cp_loop τ0 0 0 781 (τ0 1) (by decide) (fun i hi => ?_) (fun τ' => ?_)
      · unfold X7_back_L16
        simp only []
        rw [if_neg (show ¬ (781 : Int32) ≤ nI i from nI_ge (b := 781) hi (by decide)), cpM_r (q := 1) (by decide), ldN (by omega) (by decide), obs, stoN (by omega) (by decide), obs, nI_1, obs, Nat.zero_add]
      · unfold X7_back_L16
        exact if_pos (show (781 : Int32) ≤ nI 781 by decide)
    rw [cp, obs, obs]
    unfold clk
    rw [if_pos g3.z, obs, obs]
    generalize eτ : mup (cpM τ0 0 0 781 (τ0 1)) 10 6 0 = τ2
    have kr : ∀ r, r ≠ 0 → r ≠ 10 → τ2 r = τ0 r := fun r a b => by rw [← eτ, mup_r b, cpM_r a]
    have kj : ∀ j, j ≠ 6 → τ2 10 j = τ0 10 j := fun j a => by rw [← eτ, mup_j a, cpM_r (by decide)]
    have k6 : τ2 10 6 = 0 := by rw [← eτ, mup_s]
    have k0 : τ2 0 = imM τ0 := by
      funext k
      rw [← eτ, mup_r (by decide)]
      unfold imM
      by_cases q : k < 781
      · rw [if_pos q, cpM_in (by omega) (by omega)]; rfl
      · rw [if_neg q, cpM_out (by omega)]
    have ki : imM τ2 = imM τ0 := by
      funext k
      by_cases q : k < 781
      · unfold imM
        rw [if_pos q, if_pos q, kr 1 (by decide) (by decide)]
      · rw [show imM τ2 k = τ2 0 k from if_neg q, k0]
    have cwn : ∀ i, i ≠ 0 → cw (nuU (clu (cwu σ 0 (cw σ 2)) 0 (cl σ 2)) 0) i = cw σ i := fun i hi => cw_cwu_n hi
    have cw0 : cw (nuU (clu (cwu σ 0 (cw σ 2)) 0 (cl σ 2)) 0) 0 = cw σ 2 := show (if (0 : Nat) = 0 then cw σ 2 else cw σ 0) = _ from if_pos rfl
    have cln : ∀ i, i ≠ 0 → cl (nuU (clu (cwu σ 0 (cw σ 2)) 0 (cl σ 2)) 0) i = cl σ i := fun i hi => if_neg hi
    have cl0 : cl (nuU (clu (cwu σ 0 (cw σ 2)) 0 (cl σ 2)) 0) 0 = cl σ 2 := show (if (0 : Nat) = 0 then cl σ 2 else cl σ 0) = _ from if_pos rfl
    have con : ∀ r, r ≠ 9 → co (nuU (clu (cwu σ 0 (cw σ 2)) 0 (cl σ 2)) 0) r = co σ r := fun r hr => by
      funext j
      exact if_neg (fun q => hr q.1)
    have co9 : co (nuU (clu (cwu σ 0 (cw σ 2)) 0 (cl σ 2)) 0) 9 0 = nI 0 := show (if (9 : Nat) = 9 ∧ (0 : Nat) = 0 then (0 : Int32) else co σ 9 0) = 0 from if_pos ⟨rfl, rfl⟩
    generalize nuU (clu (cwu σ 0 (cw σ 2)) 0 (cl σ 2)) 0 = σ2 at cwn cw0 cln cl0 con co9
    refine .ok (σ' := σ2) (τ' := τ2) ⟨by rw [cw0]; exact g3, ?_, by rw [cl0, k0]; exact g5, Or.inr ⟨by rw [con 0 (by decide)]; exact g1, (kj 3 (by decide)).trans g2, by rw [cwn 2 (by decide)]; exact g3, by rw [cwn 2 (by decide), kr 1 (by decide) (by decide)]; exact g4, by rw [cln 2 (by decide), ki]; exact g5⟩, ⟨0, by decide, co9, k6, fun i hi => absurd hi (by omega)⟩, ⟨ch, l, t1, by rw [con 1 (by decide)]; exact t2, (kj 8 (by decide)).trans t3, fun k hk => ?_⟩, by rw [con 1 (by decide), kj 12 (by decide)]; exact h7, (kj 19 (by decide)).trans h8, by rw [kj 15 (by decide)]; exact h9, by rw [kj 16 (by decide)]; exact h10⟩ ((kj 0 (by decide)).trans z0) rfl rfl
    · rw [cw0, k0]
      refine g4.congr (fun i hi => ?_)
      exact if_pos (by omega)
    · rw [con 2 (by decide), kr 4 (by decide) (by decide)]
      exact t4 k hk
theorem S_end (h : Sys Λ Λn σ τ) (a : Int32) : CallI Λ Λn (X1_end σ a) (X7_end τ a) := by
  have h0 := h.t0 0
  unfold X1_end X7_end X3_cut
  rw [obs, obs]
  generalize mup τ 10 0 0 = τ0 at h0
  have hh := h0
  obtain ⟨h1, h2, h3, h4, ⟨n, u1, u2, u3, u4⟩, ⟨ch, l, t1, t2, t3, t4⟩, h7, h8, h9, h10⟩ := h0
  rw [isIn_s, obs, t2, t3]
  by_cases c1 : a < 0
  · rw [if_pos c1, obs, show inB a 0 (nI l) = false from by unfold inB; rw [decide_eq_true c1]; rfl, if_pos b01F]
    exact ⟨_, _, _, rfl, rfl, hh⟩
  · obtain ⟨k, hk, rfl⟩ := nI_of c1
    rw [if_neg c1]
    by_cases c2 : nI k ≤ nI l
    · have hkl := (nI_leI hk (by omega)).mp c2
      rw [if_pos c2, obs, show inB (nI k) 0 (nI l) = true from by unfold inB; rw [decide_eq_false c1, decide_eq_false (Int32.not_lt.mpr c2)]; rfl, if_neg b01T, obs]
      have s : Sys Λ Λn (cou σ (mup (co σ) 1 1 (nI k))) (mup τ0 10 8 (nI k)) := by
        refine ⟨h1, by rw [mup_r (by decide)]; exact h2, by rw [mup_r (by decide)]; exact h3, ?_, ⟨n, u1, u2, (mup_j (by decide)).trans u3, fun i hi => ?_⟩, ⟨ch, k, by omega, by rw [co_cou, mup_s], mup_s, fun q hq => ?_⟩, ?_, ?_, ?_, ?_⟩
        · unfold Img
          rw [co_cou, mup_r (by decide), mup_j (by decide), mup_r (by decide), imM_e (τ := τ0) (mup_r (by decide)) (fun i _ => by rw [mup_r (by decide)])]
          exact h4
        · rw [mup_r (by decide), mup_r (by decide)]
          exact u4 i hi
        · rw [co_cou, mup_r (by decide), mup_r (by decide)]
          exact t4 q hq
        · rw [co_cou, mup_j (by decide), mup_j (by decide)]
          exact h7
        · rw [mup_j (by decide)]; exact h8
        · rw [mup_j (by decide)]; exact h9
        · rw [mup_j (by decide)]; exact h10
      exact ⟨_, _, _, rfl, rfl, s⟩
    · rw [if_neg c2, obs, show inB (nI k) 0 (nI l) = false from by unfold inB; rw [decide_eq_true (Int32.not_le.mp c2), Bool.and_comm]; rfl, if_pos b01F]
      exact ⟨_, _, _, rfl, rfl, hh⟩
end AE
