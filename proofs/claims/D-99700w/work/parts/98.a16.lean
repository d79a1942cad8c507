/-! PURE: acts, part 2 -/
theorem loop_rel {S T E F : Type} {f : S → Option (S ⊕ E)} {g : T → Option (T ⊕ F)} (R : Nat → S → T → Prop) (Q : E → F → Prop) (N : Nat) (hN : N < FU) (hs : ∀ i s t, i ≤ N → R i s t → (∃ s' t', f s = some (.inl s') ∧ g t = some (.inl t') ∧ i < N ∧ R (i + 1) s' t') ∨ ∃ e e', f s = some (.inr e) ∧ g t = some (.inr e') ∧ Q e e') {s0 : S} {t0 : T} (h0 : R 0 s0 t0) : ∃ e e', loopO f FU s0 = some e ∧ loopO g FU t0 = some e' ∧ Q e e' := by
  have key : ∀ k n i s t, i + k = N → k < n → R i s t → ∃ e e', loopO f n s = some e ∧ loopO g n t = some e' ∧ Q e e' := by
    intro k
    induction k with
    | zero =>
      intro n i s t h1 h2 h3
      cases n with
      | zero => omega
      | succ n =>
        rcases hs i s t (by omega) h3 with ⟨s', t', -, -, h5, -⟩ | ⟨e, e', e1, e2, q⟩
        · omega
        · refine ⟨e, e', ?_, ?_, q⟩
          · show (f s).bind _ = _
            rw [e1]
            rfl
          · show (g t).bind _ = _
            rw [e2]
            rfl
    | succ k ih =>
      intro n i s t h1 h2 h3
      cases n with
      | zero => omega
      | succ n =>
        rcases hs i s t (by omega) h3 with ⟨s', t', e1, e2, h5, h6⟩ | ⟨e, e', e1, e2, q⟩
        · obtain ⟨x, y, e3, e4, q⟩ := ih n (i + 1) s' t' (by omega) (by omega) h6
          refine ⟨x, y, ?_, ?_, q⟩
          · show (f s).bind _ = _
            rw [e1]
            exact e3
          · show (g t).bind _ = _
            rw [e2]
            exact e4
        · refine ⟨e, e', ?_, ?_, q⟩
          · show (f s).bind _ = _
            rw [e1]
            rfl
          · show (g t).bind _ = _
            rw [e2]
            rfl
  exact key N FU 0 s0 t0 (by omega) hN h0
theorem WI.newD {w w' : Mm} {d : Nat} (h : WI w) (hd : d = nD w) (hd8 : d < 8) (e0 : ∀ j, j ≠ 3 → w' 0 j = w 0 j) (e3 : w' 0 3 = nI (d + 1)) (er : ∀ r j, r ≠ 0 → (j ≠ d ∨ r < 15 ∨ 27 ≤ r) → w' r j = w r j) (n16 : ∃ k, k < nK w ∧ w' 16 d = nI k) (n17 : ∃ k, k < nP w ∧ w' 17 d = nI k) (n18 : ∃ k, k < nP w ∧ w' 18 d = nI k) (n19 : isN (w' 19 d) 99) (n21 : isM (w' 21 d) d) (n22 : isM (w' 22 d) d) (n23 : isN (w' 23 d) 9999) (n15 : w' 15 d = 0 ∨ w' 15 d = 1) (ne : w' 17 d ≠ w' 18 d) : WI w' := by
  have eP : nP w' = nP w := by unfold nP; rw [e0 1 (by decide)]
  have eK : nK w' = nK w := by unfold nK; rw [e0 2 (by decide)]
  have eD : nD w' = d + 1 := by unfold nD; rw [e3, tN_nI (by omega)]
  unfold WI
  rw [eP, eK, eD]
  refine ⟨fun r j hj => ?_, fun k hk => ?_⟩
  · have old := h.1 r j hj
    rw [← hd] at old
    by_cases c : j ≠ d ∨ r < 15 ∨ 27 ≤ r
    · by_cases r0 : r = 0
      · subst r0
        by_cases j3 : j = 3
        · subst j3
          rw [e3]
          exact ⟨d + 1, by omega, rfl⟩
        · rw [e0 j j3]
          exact old
      · rw [er r j r0 c]
        by_cases jd : j = d
        · unfold okC at old ⊢
          have : r < 15 ∨ 27 ≤ r := by omega
          split at old <;> first | exact old | omega
        · unfold okC at old ⊢
          split at old <;> first | exact old | exact fun q => old (by omega)
    · have jd : j = d := by omega
      subst jd
      have r1 : 15 ≤ r := by omega
      have r2 : r < 27 := by omega
      unfold okC
      split <;> first | exact n15 | exact trivial | (intro _; first | exact n16 | exact n17 | exact n18 | exact n19 | exact n21 | exact n22 | exact n23) | omega
  · by_cases kd : k = d
    · subst kd
      exact ne
    · rw [er 17 k (by decide) (Or.inl kd), er 18 k (by decide) (Or.inl kd)]
      exact h.2 k (by omega)
section AD
variable {Λ : Nat → Nat → (Nat → Int32) → Int32} {Λn : Nat → Int32} {σ : Cs} {τ : Mm}
/-! seasons -/
theorem Sys.sea (h : Sys Λ Λn σ τ) : ∃ r σ' τ', X1_drawnSeason Λ σ 0 = some (r, σ') ∧ X7_passes τ 1 = some (r, τ') ∧ Sys Λ Λn σ' τ' ∧ uk σ σ' = σ' ∧ τ' 10 0 = τ 10 0 := by
  obtain ⟨f, e1⟩ := X1_drawn_s h.1 h.lam
  obtain ⟨⟨r, τ'⟩, e2, er, t⟩ := T_passesD h.2.1 h.1 h.2.2.1.1
  simp only at er t
  subst er
  refine ⟨_, _, τ', e1, e2, ?_, uk_sea (by decide), t.2.2.2.1 0 rfl⟩
  rw [← sc3_cwu]
  exact (h.wldT (wi_dseW h.1 _).1 t).sc sS.sc3 sT.rf
theorem inB_1 {a : Int32} {n : Nat} (hn : n ≤ 9999) (h : inB a 1 (nI n) = true) : ∃ k, 1 ≤ k ∧ k ≤ n ∧ a = nI k := by
  unfold inB at h
  simp only [Bool.and_eq_true, Bool.not_eq_true', decide_eq_false_iff_not] at h
  obtain ⟨h1, h2⟩ := h
  have h0 : ¬ a < 0 := fun q => h1 (Int32.lt_trans q (by decide))
  obtain ⟨j, hj, rfl⟩ := nI_of h0
  have h3 : ¬ n < j := fun q => h2 ((nI_ltI (a := n) (b := j) (by omega) hj).mpr q)
  have h4 : ¬ j < 1 := fun q => h1 ((nI_ltI (a := j) (b := 1) hj (by decide)).mpr q)
  exact ⟨j, by omega, by omega, rfl⟩
theorem S_seasons (h : Sys Λ Λn σ τ) (a : Int32) : CallX Λ Λn (cdx [1]) (X1_seasons Λ σ a) (X7_seasons τ a) := by
  unfold X1_seasons X7_seasons
  rw [in_s, isIn_s, obs, obs, X1_demand_s, obs]
  unfold X7_seasons_J16
  by_cases c : inB a 1 80 = true
  · obtain ⟨σ1, τ1, e1, e2, hs, ew, el, et, z⟩ := S_rem (h.t0 0)
    obtain ⟨n, n1, n2, rfl⟩ := inB_1 (n := 80) (by decide) c
    rw [if_pos c, c, if_neg b01T, obs, if_pos t00, e2, obs, Option.elim_none, e1, obs]
    unfold X7_goes
    have key := loop_rel (f := X1_seasons_L18 Λ (nI n)) (g := X7_goes_L5 (nI n) 1) (fun i (s : Cs × Int32 × Int32) (t : Mm × Int32 × Int32) => Sys Λ Λn s.1 t.1 ∧ t.1 10 0 = 0 ∧ s.2.1 = t.2.1 ∧ s.2.2 = nI i ∧ t.2.2 = nI i) (fun x y => Sys Λ Λn x.1 y.1 ∧ y.1 10 0 = 0 ∧ x.2 = y.2) n (by unfold FU; omega) (fun i s t hi hr => ?_) (s0 := (σ1, 0, 0)) (t0 := (τ1, 0, 0)) ⟨hs, z.trans mup_s, rfl, rfl, rfl⟩
    · obtain ⟨x, y, f1, f2, q1, q2, q3⟩ := key
      rw [f1, obs, f2, obs, obs]
      exact .ok q1 q2 rfl (by rw [q3])
    · obtain ⟨s1, s2, s3⟩ := s
      obtain ⟨t1, t2, t3⟩ := t
      obtain ⟨r1, r2, r3, r4, r5⟩ := hr
      simp only at r1 r2 r3 r4 r5
      subst r3 r4 r5
      unfold X1_seasons_L18 X7_goes_L5
      simp only []
      rcases Nat.lt_or_ge i n with hlt | hge
      · left
        obtain ⟨r, σ', τ', g1, g2, g3, g4, g5⟩ := r1.sea
        rw [if_neg (nI_ge hlt (by omega)), if_neg (nI_ge hlt (by omega)), g1, obs, g2, obs, obs, obs, obs, obs, obs, nI_1, g4]
        exact ⟨_, _, rfl, rfl, hlt, g3, g5.trans r2, rfl, rfl, rfl⟩
      · right
        have : i = n := by omega
        subst this
        rw [if_pos (nI_le (Nat.le_refl _) (by omega)), if_pos (nI_le (Nat.le_refl _) (by omega))]
        exact ⟨_, _, rfl, rfl, r1, r2, rfl⟩
  · rw [if_neg c, nBf c, if_pos b01F, obs, if_neg (t01 (by decide)), Option.elim_some]
    exact .er0 h rfl (by decide) rfl rfl
/-! burnt -/
theorem S_burn (h : Sys Λ Λn σ τ) (a : Int32) : CallX Λ Λn (cdx [0, 2]) (X1_burn σ a) (X7_burn τ a) := by
  unfold X1_burn X7_burn X7_burn_J14
  rw [X1_deedAt_s, T_isDeed h.2.1, obs, obs]
  by_cases c : inB a 0 (cw σ 0 0 3 - 1) = true
  · obtain ⟨d, hd, rfl⟩ := inB_D h.1 c
    have hD := h.1.D.2
    rw [if_pos c, c, if_neg b01T, obs, if_pos t00, T_of10 (h.wr0 0) (by omega), obs]
    simp only [Sum.elim_inl]
    rw [obs, uk_self, ldN (by omega) (by decide), obs]
    unfold X7_burn_J43 X1_burn_J25
    have h1 := h.t0 0
    by_cases c2 : cw σ 0 26 d = 3
    · rw [if_pos c2, if_pos c2, show X1_can 0 = some (some 2) from rfl, obs, Option.elim_some, obs, if_neg (t01 (by decide))]
      exact .er0 h1 rfl (by decide) rfl rfl
    · obtain ⟨σ1, τ1, e1, e2, hs, ew, el, et, z⟩ := S_rem (h1.t0 0)
      rw [if_neg c2, if_neg c2, show X1_can 1 = some none from rfl, obs, Option.elim_none, e1, obs, obs, if_pos t00]
      unfold X7_sets
      rw [e2, obs, show (10 : Int32) = nI 10 from rfl, ix_of, ldN (by omega) (by decide), obs, stoN (by omega) (by decide), obs, obs, stofN (by omega) (by decide), obs, obs, mset_upd, X2_tells_s, obs, obs, cwu_cwu, cw_cwu]
      have ex : wX 26 d = 45 + 12 * d + 10 := wX16 (by decide) (by decide)
      have t1 : Tr τ1 (mup τ1 0 (45 + 12 * d + 10) 3) (mup (cw σ1 0) 26 d 3) := by rw [← ex]; exact Tr.put hs.2.1 (r := 26) (j := d) (by show d < 8; omega) 3
      have w1 : WI (mup (cw σ1 0) 26 d 3) := hs.1.mup (hr0 (by decide)) (by decide) trivial
      obtain ⟨τ2, e3, t2⟩ := T_logs t1.1 (nI d) 4 0
      rw [e3, obs]
      refine .ok (hs.wldT (w1.tell _ _ _).1 (t1.tr t2)) ?_ rfl ?_
      · rw [(t1.tr t2).2.2.2.1 0 rfl, z, mup_s]
      · rw [show τ1 0 (45 + 12 * d + 10) = cw σ 0 26 d from by rw [et, mup_r (by decide), mup_r (by decide), ← ex]; exact (h.2.1 26 d (by show d < 8; omega)).symm]
  · rw [if_neg c, nBf c, if_pos b01F, obs, if_neg (t01 (by decide))]
    simp only [Sum.elim_inr]
    rw [uk_self]
    exact .er0 h rfl (by decide) rfl rfl
/-! lent -/
theorem S_lend (h : Sys Λ Λn σ τ) (a b n : Int32) : CallX Λ Λn (cdx [0, 1, 2]) (X1_lend σ a b n) (X7_lend τ a b n) := by
  unfold X1_lend X7_lend X7_lend_J17 X7_lend_J37
  rw [X1_partyAt_s, T_isParty h.2.1, obs, obs]
  have bad : ∀ (y : Int32) (k : Nat), cdx [0, 1, 2] k = y → ¬ y ≤ 0 → CallX Λ Λn (cdx [0, 1, 2]) (some (.inr (k, σ))) (X7_lend_J42 τ a b n y) := by
    intro y k hy h0
    unfold X7_lend_J42
    rw [obs, if_neg (t01 h0)]
    exact .er0 h hy (fun q => h0 (by rw [q]; decide)) rfl rfl
  by_cases c : inB a 0 (cw σ 0 0 1 - 1) = true
  · rw [if_pos c, c, if_neg b01T, T_isParty h.2.1, obs]
    simp only [Sum.elim_inl]
    rw [obs, uk_self, X1_partyAt_s, obs]
    by_cases c2 : inB b 0 (cw σ 0 0 1 - 1) = true
    · rw [if_pos c2, c2, if_neg b01T]
      simp only [Sum.elim_inl]
      rw [obs, uk_self]
      have dem : CallX Λ Λn (cdx [0, 1, 2]) (X1_lend_J30 σ a b n) (X7_lend_J42 τ a b n 2) := by
        unfold X1_lend_J30 X1_lend_J31
        rw [show X1_demand 0 = some (some 1) from rfl, obs, Option.elim_some]
        exact bad 2 1 rfl (by decide)
      by_cases c3 : a = b
      · rw [if_pos c3, if_pos c3]
        exact dem
      · rw [if_neg c3, if_neg c3, in_s, isIn_s, obs, obs]
        by_cases c4 : inB n 1 999 = true
        · rw [c4, if_neg b01T, if_neg b01T]
          obtain ⟨p, hp, rfl⟩ := inB_P h.1 c
          obtain ⟨q, hq, rfl⟩ := inB_P h.1 c2
          have hP := h.1.P.2
          have npq : p ≠ q := fun e => c3 (by rw [e])
          unfold X1_lend_J31 X7_lend_J42 X1_lend_J70 X7_lend_J77 X1_lend_J71 X7_lend_J82
          have h1 := h.t0 0
          rw [show X1_demand 1 = some none from rfl, obs, Option.elim_none, ldN (by omega) (by decide), ldN (by omega) (by decide), obs, obs, obs, if_pos t00, T_coin (h.wr0 0) (by omega), T_coin (h.wr0 0) (by omega), obs, obs]
          have no : CallX Λ Λn (cdx [0, 1, 2]) (some (.inr (2, σ))) (some (0, mup (mup τ 10 0 0) 10 0 3)) := .er0 h1 rfl (by decide) rfl rfl
          by_cases c5 : cw σ 0 10 p < n
          · rw [if_pos c5, if_pos c5, show X1_can 0 = some (some 2) from rfl]
            simp only [obs, Option.elim_some]
            rw [if_neg (t01 (by decide))]
            exact no
          · rw [if_neg c5, if_neg c5]
            by_cases c6 : cw σ 0 10 q + n ≤ 9999
            · rw [if_neg (Int32.not_lt.mpr c6), obs, if_pos c6, obs, if_pos t00, show X1_can 1 = some none from rfl, obs, Option.elim_none]
              obtain ⟨σ1, τ1, e1, e2, hs, ew, el, et, z⟩ := S_rem (h1.t0 0)
              rw [e1, T_coin (h1.wr0 0) (by omega), obs, obs]
              unfold X7_sets
              rw [e2, ix_coin, ix_coin]
              simp only [obs]
              simp only [ldN (n := 6) (show p < 6 by omega) (by decide), ldN (n := 6) (show q < 6 by omega) (by decide), ldN (n := 781) (show 15 + 2 * p < 781 by omega) (by decide), ldN (n := 781) (show 15 + 2 * q < 781 by omega) (by decide), stoN (n := 781) (show 15 + 2 * p < 781 by omega) (by decide), stoN (n := 781) (show 15 + 2 * q < 781 by omega) (by decide), stofN (n := 6) (show p < 6 by omega) (by decide), stofN (n := 6) (show q < 6 by omega) (by decide), obs, mset_upd, cw_cwu, cwu_cwu, ew]
              have ep : ∀ p, wX 10 p = 15 + 2 * p := fun _ => rfl
              have k1 : ∀ p : Nat, p < 6 → τ1 0 (15 + 2 * p) = cw σ 0 10 p := fun p hp => by
                rw [← ep, ← ew]
                exact (hs.2.1 10 p hp).symm
              have r1 : WR (cw σ 0) (τ1 0) := by rw [← ew]; exact hs.2.1
              have t1 : Tr τ1 (mup τ1 0 (15 + 2 * p) (cw σ 0 10 p - n)) (mup (cw σ 0) 10 p (cw σ 0 10 p - n)) := Tr.put r1 (r := 10) (j := p) (by show p < 6; omega) _
              have t2 := t1.tr (Tr.put t1.1 (r := 10) (j := q) (by show q < 6; omega) (cw σ 0 10 q + n))
              have w0 : WI (mup (cw σ 0) 10 p (cw σ 0 10 p - n)) := h.1.mup (hr0 (by decide)) (by decide) trivial
              have w1 : WI (mup (mup (cw σ 0) 10 p (cw σ 0 10 p - n)) 10 q (cw σ 0 10 q + n)) := w0.mup (hr0 (by decide)) (by decide) trivial
              rw [mup_j (show 15 + 2 * q ≠ 15 + 2 * p by omega), k1 p (by omega), k1 q (by omega), mup_j npq, mup_s, mup_j (Ne.symm npq)]
              exact .ok (hs.wldT w1 t2) (by rw [t2.2.2.2.1 0 rfl, z, mup_s]) rfl rfl
            · rw [if_pos (Int32.not_le.mp c6), obs, if_neg c6, if_neg (t01 (by decide)), show X1_can 0 = some (some 2) from rfl, obs, Option.elim_some]
              exact no
        · rw [nBf c4, if_pos b01F, if_pos b01F]
          exact dem
    · rw [if_neg c2, nBf c2, if_pos b01F]
      simp only [Sum.elim_inr]
      rw [uk_self]
      exact bad 1 0 rfl (by decide)
  · rw [if_neg c, nBf c, if_pos b01F]
    simp only [Sum.elim_inr]
    rw [uk_self]
    exact bad 1 0 rfl (by decide)
end AD
