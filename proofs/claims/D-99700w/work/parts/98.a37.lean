/-! PURE: the law is told -/
def begT (τ : Mm) : Mm := mup (mup (mup (mup (mup (mup τ 10 12 (-1)) 10 9 (-1)) 10 10 (τ 10 8)) 10 8 0) 10 11 0) 10 13 0
section AZ
variable {Λ : Nat → Nat → (Nat → Int32) → Int32} {Λn : Nat → Int32} {σ : Cs} {τ : Mm}
theorem begT_s : X7_begins τ = some (begT τ) := by
  unfold X7_begins
  rw [obs, obs, obs, obs, obs, obs, mup_j (show (8 : Nat) ≠ 9 by decide), mup_j (show (8 : Nat) ≠ 12 by decide)]
  rfl
theorem begT_j {j : Nat} (h : j ≠ 8 ∧ j ≠ 9 ∧ j ≠ 10 ∧ j ≠ 11 ∧ j ≠ 12 ∧ j ≠ 13) : begT τ 10 j = τ 10 j := by
  unfold begT
  rw [mup_j h.2.2.2.2.2, mup_j h.2.2.2.1, mup_j h.1, mup_j h.2.2.1, mup_j h.2.1, mup_j h.2.2.2.2.1]
theorem begT_r {r : Nat} (h : r ≠ 10) : begT τ r = τ r := by
  unfold begT
  rw [mup_r h, mup_r h, mup_r h, mup_r h, mup_r h, mup_r h]
theorem begT_v : begT τ 10 8 = 0 ∧ begT τ 10 9 = -1 ∧ begT τ 10 10 = τ 10 8 ∧ begT τ 10 11 = 0 ∧ begT τ 10 12 = -1 ∧ begT τ 10 13 = 0 := by
  unfold begT
  refine ⟨?_, ?_, ?_, ?_, ?_, ?_⟩ <;> simp [mup, upd]
theorem begT_td : td (begT τ) 0 (nI 0) (-1) = begT τ := by
  obtain ⟨-, -, -, e11, e12, e13⟩ := begT_v (τ := τ)
  funext r j
  unfold td
  by_cases h : r = 10
  · subst h
    rw [if_pos rfl]
    by_cases h1 : j = 11
    · subst h1; rw [if_pos rfl, e11]; rfl
    · rw [if_neg h1]
      by_cases h2 : j = 12
      · subst h2; rw [if_pos rfl, e12]
      · rw [if_neg h2]
        by_cases h3 : j = 13
        · subst h3; rw [if_pos rfl, e13]; rfl
        · rw [if_neg h3]
  · rw [if_neg h]
theorem begS_rd : rd (begS σ) 0 (co σ 1 4) 0 = begS σ := by
  show cou σ _ = cou σ _
  congr 1
  funext r j
  unfold begS rdM
  rw [co_cou]
  by_cases h : r = 1
  · subst h
    rw [if_pos rfl]
    by_cases h1 : j = 3
    · subst h1; rw [if_pos rfl]; rfl
    · rw [if_neg h1]
      by_cases h2 : j = 4
      · subst h2; rw [if_pos rfl]; rfl
      · rw [if_neg h2]
        by_cases h3 : j = 6
        · subst h3; rw [if_pos rfl]; rfl
        · rw [if_neg h3]
  · rw [if_neg h]
/-- the text that is read, on both sides -/
theorem Sys.text (h : Sys Λ Λn σ τ) : ∃ ch E, E ≤ 400 ∧ CB (begS σ) ch E ∧ Tw (begT τ) ch E ∧ (∀ k, k < E → ch k < 256) ∧ (∀ k, k < 400 → co σ 2 k = sb (ch k) ∧ τ 4 k = nI (ch k)) := by
  obtain ⟨ch, l, t1, t2, t3, t4⟩ := h.txt
  obtain ⟨-, e9, e10, -, -, -⟩ := begT_v (τ := τ)
  refine ⟨ch, l, t1, ⟨t2, t1, fun k hk => ⟨(t4 k (by omega)).1, (t4 k (by omega)).2.1⟩⟩, ⟨⟨e10.trans t3, t1, fun k hk => (t4 k (by omega)).1, Or.inl ⟨e9, fun k hk => by rw [begT_r (by decide)]; exact (t4 k (by omega)).2.2⟩⟩, by rw [begT_j (by decide)]; exact h.2.2.2.2.2.2.2.2.1, by rw [begT_j (by decide)]; exact h.2.2.2.2.2.2.2.2.2⟩, fun k hk => (t4 k (by omega)).1, fun k hk => (t4 k hk).2⟩
theorem S_law (h : Sys Λ Λn σ τ) : ∃ out K r τ', X1_law σ = some (out, K) ∧ X7_law τ = some (r, τ') ∧ (4 * K.1 ≤ 28064 ∧ K.2 ≤ 80216) ∧ ((∃ (f : Nat → FcV) (m : Int32) (σ' : Cs), out = .inl ((f, m), σ') ∧ r = m ∧ τ' 10 0 = 0 ∧ ∀ Λ' Λn' a, Λ' a = f → Λn' a = m → (∀ b, cl σ 2 = some b → Λ' b = Λ b ∧ Λn' b = Λn b) → Sys Λ' Λn' (clu σ' 0 (some a)) τ') ∨ (∃ σ', out = .inr (1, σ') ∧ τ' 10 0 = 1 ∧ Sys Λ Λn σ' τ')) := by
  obtain ⟨ch, E, hE, cb, tw, c256, tp⟩ := h.text
  obtain ⟨out, K, e1, hK, cases'⟩ := S_lawText cb (co σ 1 4)
  rw [begS_rd] at e1
  obtain ⟨v8, v9, v10, v11, v12, v13⟩ := begT_v (τ := τ)
  unfold X1_law X7_law
  rw [begS_s, obs, e1, obs, begT_s, obs]
  rcases cases' with ⟨f, n', p', b', rfl, ⟨hn, hn0⟩, hp, fx, hr⟩ | ⟨g, p', d', rfl, hg, hr⟩
  · have e7 := hr _ tw
    rw [begT_td] at e7
    have lr : ∀ r, r ≠ 10 → td (lawM (begT τ) f) p' (nI 0) (-1) r = τ r := fun r hr => by
      rw [td_r hr, show lawM (begT τ) f r = begT τ r from lnT_r hr, begT_r hr]
    have lj : ∀ j, (j ≠ 11 ∧ j ≠ 12 ∧ j ≠ 13) → (j ≠ 17 ∧ j ≠ 18) → td (lawM (begT τ) f) p' (nI 0) (-1) 10 j = begT τ 10 j := fun j h1 h2 => by
      rw [td_j h1]
      exact lnT_j h2
    have l12 : td (lawM (begT τ) f) p' (nI 0) (-1) 10 12 = -1 := td_12
    rw [e7, obs, show (nI n', td (lawM (begT τ) f) p' (nI 0) (-1)).2 10 12 = -1 from (td_12 (τ := lawM (begT τ) f) (p := p') (dd := nI 0) (f := -1)), if_pos rfl]
    simp only []
    generalize td (lawM (begT τ) f) p' (nI 0) (-1) = T at lr lj l12
    have s1 : ∀ (t : Mm) x, sto 781 t 0 1 x = some (mup t 0 1 x) := fun t x => stoN (k := 1) (by decide) (by decide)
    have s2 : ∀ (t : Mm) x, sto 781 t 0 2 x = some (mup t 0 2 x) := fun t x => stoN (k := 2) (by decide) (by decide)
    unfold X7_law_J24
    rw [obs, if_pos t00, s1, obs, s2, obs, mup_r (show (10 : Nat) ≠ 0 by decide), mup_j (show (10 : Nat) ≠ 0 by decide)]
    have eE : T 10 10 = nI E := by
      rw [lj 10 (by decide) (by decide)]
      exact tw.1.1
    rw [eE]
    generalize et : mup (mup (mup T 10 0 0) 0 1 (nI n')) 0 2 (nI E) = t2
    have k0 : t2 0 1 = nI n' ∧ t2 0 2 = nI E ∧ ∀ i, i ≠ 1 → i ≠ 2 → t2 0 i = τ 0 i := by
      rw [← et]
      refine ⟨by rw [mup_j (by decide), mup_s], mup_s, fun i h1 h2 => ?_⟩
      rw [mup_j h2, mup_j h1, mup_r (by decide), lr 0 (by decide)]
    have kr : ∀ r, r ≠ 0 → r ≠ 10 → t2 r = τ r := fun r h1 h2 => by rw [← et, mup_r h1, mup_r h1, mup_r h2, lr r h2]
    have kj : ∀ j, j ≠ 0 → t2 10 j = T 10 j := fun j h1 => by rw [← et, mup_r (by decide), mup_r (by decide), mup_j h1]
    have kz : t2 10 0 = 0 := by rw [← et, mup_r (by decide), mup_r (by decide), mup_s]
    have lp : loopO (X7_law_L55 (nI n')) FU (t2, 0) = some (cpM t2 0 381 E (fun k => nI (ch k))) := by
      have := loopO_run (step := X7_law_L55 (nI n')) (fun i => (cpM t2 0 381 i (fun k => nI (ch k)), nI i)) E (by unfold FU; omega) (fun i hi => ?_) (ex := cpM t2 0 381 E (fun k => nI (ch k))) ?_
      · simp only [cpM_0] at this
        exact this
      · unfold X7_law_L55
        simp only []
        rw [cpM_r (q := 10) (by decide), kj 10 (by decide), eE, if_neg (nI_ge hi (by omega)), cpM_r (q := 4) (by decide), kr 4 (by decide) (by decide), ldN (by omega) (by decide), obs, show (381 : Int32) + nI i = nI (381 + i) from nI_add 381 i, stoN (by omega) (by decide), obs, nI_1, obs, (tp i (by omega)).2, cpM_s (g := fun k => nI (ch k))]
      · unfold X7_law_L55
        simp only []
        rw [cpM_r (q := 10) (by decide), kj 10 (by decide), eE, if_pos (nI_le (Nat.le_refl _) (by omega))]
    rw [lp, obs, obs]
    simp only [Sum.elim_inl]
    rw [addc_s]
    refine ⟨_, _, _, _, rfl, rfl, ⟨by show 4 * (K.1 + 0) ≤ 28064; omega, by show K.2 + 0 ≤ 80216; omega⟩, Or.inl ⟨f, nI n', _, rfl, rfl, by rw [mup_j (by decide), cpM_r (by decide), kz], fun Λ' Λn' a ha hna hb => ?_⟩⟩
    rw [uk_of (σ := σ) (σ' := cou (rd (begS σ) p' b' 0) (mup (co (rd (begS σ) p' b' 0)) 1 5 (-1))) (fun _ _ => ⟨rfl, rfl⟩) (fun _ => rfl)]
    generalize eτ : mup (cpM t2 0 381 E (fun k => nI (ch k))) 10 6 0 = τ2
    have m1 : τ2 0 1 = nI n' := by rw [← eτ, mup_r (by decide), cpM_out (by omega)]; exact k0.1
    have m2 : τ2 0 2 = nI E := by rw [← eτ, mup_r (by decide), cpM_out (by omega)]; exact k0.2.1
    have mk : ∀ k, k < E → τ2 0 (381 + k) = nI (ch k) := fun k hk => by
      rw [← eτ, mup_r (by decide), cpM_in (by omega) (by omega)]
      rw [show 381 + k - 381 = k by omega]
    have mo : ∀ i, i ≠ 1 → i ≠ 2 → (i < 381 ∨ 381 + E ≤ i) → τ2 0 i = τ 0 i := fun i h1 h2 h3 => by
      rw [← eτ, mup_r (by decide), cpM_out (by omega)]
      exact k0.2.2 i h1 h2
    have mr : ∀ r, r ≠ 0 → r ≠ 10 → τ2 r = τ r := fun r h1 h2 => by rw [← eτ, mup_r h2, cpM_r h1, kr r h1 h2]
    have mj : ∀ j, j ≠ 0 → j ≠ 6 → τ2 10 j = T 10 j := fun j h1 h2 => by rw [← eτ, mup_j h2, cpM_r (by decide), kj j h1]
    have m6 : τ2 10 6 = 0 := by rw [← eτ, mup_s]
    obtain ⟨h1, h2, h3, h4, -, ⟨ch', l, t1, t2', t3, t4⟩, h7, h8, h9, h10⟩ := h
    have c0 : co (clu (nuU (cou (rd (begS σ) p' b' 0) (mup (co (rd (begS σ) p' b' 0)) 1 5 (-1))) 0) 0 (some a)) 0 = co σ 0 := rfl
    have c2 : co (clu (nuU (cou (rd (begS σ) p' b' 0) (mup (co (rd (begS σ) p' b' 0)) 1 5 (-1))) 0) 0 (some a)) 2 = co σ 2 := rfl
    refine ⟨h1, ?_, ⟨?_, ?_⟩, ?_, ⟨0, by decide, rfl, m6, fun i hi => absurd hi (by omega)⟩, ⟨ch', 0, by omega, rfl, ?_, fun k hk => ?_⟩, ?_, ?_, ?_, ?_⟩
    · intro r j hj
      have x1 := wX_lt hj
      have x2 := wX_12 hj
      rw [mo _ x2.1 x2.2 (Or.inl x1)]
      exact h2 r j hj
    · show LR (lawF Λ' (some a)) (τ2 0)
      rw [show lawF Λ' (some a) = Λ' a from rfl, ha]
      exact LR_of hE c256 hn hn0 fx hr m1 m2 mk
    · show τ2 0 1 = Λn' a
      rw [hna, m1]
    · unfold Img
      rw [c0, mj 3 (by decide) (by decide), lj 3 (by decide) (by decide), begT_j (by decide), mr 1 (by decide) (by decide)]
      rcases h4 with g | ⟨g1, g2, g3, g4, g5, g6⟩
      · exact Or.inl g
      · refine Or.inr ⟨g1, g2, g3, g4, ?_⟩
        have ei : imM τ2 = imM τ := imM_e (mr 1 (by decide) (by decide)) (fun i hi => mo i (by omega) (by omega) (Or.inr (by omega)))
        rw [ei]
        show LOK Λ' Λn' (cl σ 2) (imM τ)
        cases ec : cl σ 2 with
        | none =>
          rw [ec] at g5 g6
          exact ⟨g5, g6⟩
        | some b =>
          rw [ec] at g5 g6
          obtain ⟨q1, q2⟩ := hb b ec
          refine ⟨?_, ?_⟩
          · show LR (Λ' b) _
            rw [q1]
            exact g5
          · show _ = Λn' b
            rw [q2]
            exact g6
    · rw [mj 8 (by decide) (by decide), lj 8 (by decide) (by decide), v8]
      rfl
    · rw [c2, mr 4 (by decide) (by decide)]
      exact t4 k hk
    · show (-1 : Int32) = _
      rw [mj 12 (by decide) (by decide), l12]
    · rw [mj 19 (by decide) (by decide), lj 19 (by decide) (by decide), begT_j (by decide)]
      exact h8
    · rw [mj 15 (by decide) (by decide), lj 15 (by decide) (by decide), begT_j (by decide)]
      exact h9
    · rw [mj 16 (by decide) (by decide), lj 16 (by decide) (by decide), begT_j (by decide)]
      exact h10
  · obtain ⟨f, n', a, dd, e7⟩ := hr _ tw
    rw [begT_td] at e7
    have ng : ¬ nI g = -1 := nI_nm (by omega)
    rw [e7, obs, show (nI n', td (lawM (begT τ) f) a dd (nI g)).2 10 12 = nI g from (td_12 (τ := lawM (begT τ) f) (p := a) (dd := dd) (f := nI g)), if_neg ng]
    unfold X7_law_J24
    rw [obs, if_neg (t01 (by decide))]
    simp only [Sum.elim_inr]
    rw [show X1_fails (rd (begS σ) p' (nI g) d') = some (.inr (1, cou (rd (begS σ) p' (nI g) d') (mup (co (rd (begS σ) p' (nI g) d')) 1 5 (nI g)))) from rfl, obs]
    simp only [Sum.elim_inr]
    rw [addc_s]
    refine ⟨_, _, _, _, rfl, rfl, ⟨by show 4 * (K.1 + 1) ≤ 28064; omega, by show K.2 + 6 ≤ 80216; omega⟩, Or.inr ⟨_, rfl, mup_s, ?_⟩⟩
    rw [uk_of (σ := σ) (σ' := cou (rd (begS σ) p' (nI g) d') (mup (co (rd (begS σ) p' (nI g) d')) 1 5 (nI g))) (fun _ _ => ⟨rfl, rfl⟩) (fun _ => rfl)]
    have lr : ∀ r, r ≠ 10 → mup (td (lawM (begT τ) f) a dd (nI g)) 10 0 1 r = τ r := fun r hr => by
      rw [mup_r hr, td_r hr, show lawM (begT τ) f r = begT τ r from lnT_r hr, begT_r hr]
    have lj : ∀ j, j ≠ 0 → (j ≠ 11 ∧ j ≠ 12 ∧ j ≠ 13) → (j ≠ 17 ∧ j ≠ 18) → mup (td (lawM (begT τ) f) a dd (nI g)) 10 0 1 10 j = begT τ 10 j := fun j h0 h1 h2 => by
      rw [mup_j h0, td_j h1]
      exact lnT_j h2
    refine h.tape (fun _ _ => ⟨rfl, rfl⟩) ⟨rfl, rfl, rfl⟩ rfl ⟨lr 0 (by decide), lr 1 (by decide), lr 3 (by decide), lr 4 (by decide)⟩ (fun j hj => ?_) ⟨?_, ?_⟩ ?_ ?_
    · rw [lj j (by omega) (by omega) (by omega), begT_j (by omega)]
    · rw [lj 15 (by decide) (by decide) (by decide), begT_j (by decide)]
      exact h.2.2.2.2.2.2.2.2.1
    · rw [lj 16 (by decide) (by decide) (by decide), begT_j (by decide)]
      exact h.2.2.2.2.2.2.2.2.2
    · rw [lj 8 (by decide) (by decide) (by decide), v8]
    · show nI g = _
      rw [mup_j (by decide), td_12]
end AZ
