/-! PURE: seasons ahead, part 2 -/
section AH
variable {Λ : Nat → Nat → (Nat → Int32) → Int32} {Λn : Nat → Int32} {σ σ0 : Cs} {τ τ0 : Mm} {k : Nat}
theorem X1_aheadBy_s (a : Int32) : X1_aheadBy a = some (if inB a 0 80 = true then none else some 1) := by
  unfold X1_aheadBy
  rw [in_s, obs, X1_demand_s]
theorem S_wealth (h : Sys Λ Λn σ τ) (a b : Int32) : CallX Λ Λn (cdx [0, 1]) (X1_wealth Λ σ a b) (X7_wealth τ a b) := by
  unfold X1_wealth X7_wealth X7_wealth_J28
  rw [X1_partyAt_s, T_isParty h.2.1, obs, obs]
  by_cases c : inB a 0 (cw σ 0 0 1 - 1) = true
  · obtain ⟨p, hp, rfl⟩ := inB_P h.1 c
    have hP := h.1.P.2
    rw [if_pos c, c, if_neg b01T]
    simp only [Sum.elim_inl]
    rw [X1_aheadBy_s, isIn_s, obs, obs]
    by_cases c2 : inB b 0 80 = true
    · obtain ⟨n, hn, rfl⟩ := inB_C (n := 80) (by decide) c2
      have h1 := h.t0 0
      obtain ⟨σ1, q, e1, e2, a1⟩ := S_worldAt h1.wo h1.2.2.2.2.2.2.2.1 hn
      obtain ⟨τc, b1, b2, b3⟩ := a1.back
      rw [if_pos c2, c2, if_neg b01T, obs, if_pos t00, T_putsAside, obs, e2, obs, Option.elim_none, e1, obs, ldN (by omega) (by decide), obs, T_coin a1.2.2.2.1.1 (by omega), obs, b1, obs]
      exact .ok (h1.sc a1.1 b2) (b3.trans mup_s) rfl rfl
    · rw [if_neg c2, nBf c2, if_pos b01F, obs, if_neg (t01 (by decide)), Option.elim_some]
      exact .er0 h rfl (by decide) rfl rfl
  · rw [if_neg c, nBf c, if_pos b01F, obs, if_neg (t01 (by decide))]
    simp only [Sum.elim_inr]
    exact .er0 h rfl (by decide) rfl rfl
theorem S_ahead (h : Sys Λ Λn σ τ) (a b q : Int32) : CallX Λ Λn (cdx [0, 1, 3]) (X1_ahead Λ σ a b q) (X7_ahead τ a b q) := by
  unfold X1_ahead X7_ahead X7_ahead_J41
  rw [X1_deedAt_s, T_isDeed h.2.1, obs, obs]
  by_cases c : inB a 0 (cw σ 0 0 3 - 1) = true
  · obtain ⟨d, hd, rfl⟩ := inB_D h.1 c
    have hD := h.1.D.2
    rw [if_pos c, c, if_neg b01T]
    simp only [Sum.elim_inl]
    rw [X1_aheadBy_s, isIn_s, obs, obs]
    by_cases c2 : inB b 0 80 = true
    · obtain ⟨n, hn, rfl⟩ := inB_C (n := 80) (by decide) c2
      rw [if_pos c2, c2, if_neg b01T, Option.elim_none, X1_question_s, isIn_s, obs, obs]
      by_cases c3 : inB q 0 2 = true
      · obtain ⟨w, hw, rfl⟩ := inB_C (n := 2) (by decide) c3
        have h1 := h.t0 0
        obtain ⟨σ1, y, e1, e2, a1⟩ := S_worldAt h1.wo h1.2.2.2.2.2.2.2.1 hn
        obtain ⟨τc, b1, b2, b3⟩ := a1.back
        have wr := a1.2.2.2.1.1
        rw [if_pos c3, c3, if_neg b01T, obs, if_pos t00, T_putsAside, obs, e2, obs, Option.elim_none, e1, obs, ldN (by omega) (by decide), obs, ldN (by omega) (by decide), obs, ldN (by omega) (by decide), obs, T_of8 wr (by omega), obs, T_of10 wr (by omega), obs, T_of11 wr (by omega), obs, b1, obs, obs, obs]
        have s := h1.sc a1.1 b2
        have z : τc 10 0 = 0 := b3.trans mup_s
        match w, hw with
        | 0, _ => rw [if_pos (show nI 0 = 0 from rfl), if_pos (show nI 0 = 0 from rfl)]; exact .ok s z rfl rfl
        | 1, _ => rw [if_neg (show ¬ nI 1 = 0 by decide), if_neg (show ¬ nI 1 = 0 by decide), if_pos (show nI 1 = 1 from rfl), if_pos (show nI 1 = 1 from rfl)]; exact .ok s z rfl rfl
        | 2, _ =>
          rw [if_neg (show ¬ nI 2 = 0 by decide), if_neg (show ¬ nI 2 = 0 by decide), if_neg (show ¬ nI 2 = 1 by decide), if_neg (show ¬ nI 2 = 1 by decide)]
          rcases a1.2.1.paid (show d < 8 by omega) with g | g
          · rw [g, if_pos rfl]; exact .ok s z rfl rfl
          · rw [g, if_neg (by decide)]; exact .ok s z rfl rfl
      · rw [if_neg c3, nBf c3, if_pos b01F, obs, if_neg (t01 (by decide)), Option.elim_some]
        exact .er0 h rfl (by decide) rfl rfl
    · rw [if_neg c2, nBf c2, if_pos b01F, obs, if_neg (t01 (by decide)), Option.elim_some]
      exact .er0 h rfl (by decide) rfl rfl
  · rw [if_neg c, nBf c, if_pos b01F, obs, if_neg (t01 (by decide))]
    simp only [Sum.elim_inr]
    exact .er0 h rfl (by decide) rfl rfl
/-- what holds of scratch alone -/
def Scr (σ : Cs) (τ : Mm) (σ' : Cs) (τ' : Mm) : Prop := sS σ σ' ∧ sT τ τ' ∧ τ' 10 0 = τ 10 0
theorem Scr.rf : Scr σ τ σ τ := ⟨sS.rf, sT.rf, rfl⟩
theorem Scr.wo {σ' : Cs} {τ' : Mm} (a : Scr σ τ σ' τ') (h : Wo Λ Λn σ τ) : Wo Λ Λn σ' τ' := h.sc a.1 a.2.1
theorem Scr.p19 {σ' : Cs} {τ' : Mm} (a : Scr σ τ σ' τ') : τ' 10 19 = τ 10 19 := a.2.1.2.2.2.2.1 19 (by omega)
theorem Scr.tr {σ1 σ2 : Cs} {τ1 τ2 : Mm} (a : Scr σ τ σ1 τ1) (b : Scr σ1 τ1 σ2 τ2) : Scr σ τ σ2 τ2 := ⟨a.1.tr b.1, a.2.1.tr b.2.1, b.2.2.trans a.2.2⟩
theorem Scr.cw0 {σ' : Cs} {τ' : Mm} (a : Scr σ τ σ' τ') : cw σ' 0 = cw σ 0 := a.1.1.1
theorem S_whenOf' (h : Wo Λ Λn σ τ) {d : Nat} (hd : d < nD (cw σ 0)) : ∃ r σ' τ', X1_whenOf Λ σ (nI d) (τ 10 19) = some (r, σ') ∧ X7_whenOf τ (nI d) = some (r, τ') ∧ Scr σ τ σ' τ' ∧ (r = -1 ∨ ∃ n, n ≤ 80 ∧ r = nI n) := by
  obtain ⟨r, σ', τ', e1, e2, e3, e4, e5, e6⟩ := S_whenOf h hd
  exact ⟨r, σ', τ', e1, e2, ⟨e3, e4, e5⟩, e6⟩
theorem S_late (h : Sys Λ Λn σ τ) : CallI Λ Λn (X1_late Λ σ) (X7_late τ) := by
  have h1 := h.t0 0
  have h19 := h1.2.2.2.2.2.2.2.1
  obtain ⟨e, hD⟩ := h.1.D
  unfold X1_late X7_late
  rw [obs]
  generalize mup τ 10 0 0 = τ1 at h1 h19
  have key := loop_rel (f := X1_late_L6 Λ) (g := X7_late_L11) (fun i (s : Cs × Int32 × Int32 × Int32) (t : Mm × Int32 × Int32 × Int32) => s.2.1 = t.2.1 ∧ s.2.2.1 = t.2.2.1 ∧ s.2.2.2 = nI i ∧ t.2.2.2 = nI i ∧ Scr σ τ1 s.1 t.1) (fun x y => x.2 = y.2 ∧ Scr σ τ1 x.1 y.1) (nD (cw σ 0)) (FU8 hD) (fun i s t hi hr => ?_) (s0 := (σ, -1, -1, 0)) (t0 := (τ1, -1, -1, 0)) ⟨rfl, rfl, rfl, rfl, Scr.rf⟩
  · obtain ⟨x, y, f1, f2, q1, q2⟩ := key
    rw [f1, f2, obs, obs]
    exact ⟨_, _, _, rfl, by rw [q1], h1.sc q2.1 q2.2.1⟩
  · obtain ⟨s1, s2, s3, s4⟩ := s
    obtain ⟨t1, t2, t3, t4⟩ := t
    obtain ⟨r1, r2, r3, r4, r5⟩ := hr
    simp only at r1 r2 r3 r4 r5
    subst r1 r2 r3 r4
    have wo := r5.wo h1.wo
    unfold X1_late_L6 X7_late_L11
    simp only []
    rw [T_n5 wo.2.1 wo.1, r5.cw0, e]
    rcases Nat.lt_or_ge i (nD (cw σ 0)) with hlt | hge
    · obtain ⟨r, σ', τ', g1, g2, g3, -⟩ := S_whenOf' wo (d := i) (by rw [r5.cw0]; exact hlt)
      rw [r5.p19, h19] at g1
      rw [if_neg (nI_ge hlt (by omega)), if_neg (nI_ge hlt (by omega)), g1, g2]
      simp only [obs, nI_1]
      by_cases c : s3 < r
      · rw [if_pos c, if_pos c]
        exact Or.inl ⟨_, _, rfl, rfl, hlt, rfl, rfl, rfl, rfl, r5.tr g3⟩
      · rw [if_neg c, if_neg c]
        exact Or.inl ⟨_, _, rfl, rfl, hlt, rfl, rfl, rfl, rfl, r5.tr g3⟩
    · have : i = nD (cw σ 0) := by omega
      subst this
      rw [if_pos (nI_le (Nat.le_refl _) (by omega)), if_pos (nI_le (Nat.le_refl _) (by omega))]
      exact Or.inr ⟨_, _, rfl, rfl, rfl, r5⟩
theorem S_early (h : Sys Λ Λn σ τ) (a : Int32) : CallX Λ Λn (cdx [0]) (X1_early Λ σ a) (X7_early τ a) := by
  unfold X1_early X7_early X7_early_J14
  rw [X1_deedAt_s, T_isDeed h.2.1, obs, obs]
  by_cases c : inB a 0 (cw σ 0 0 3 - 1) = true
  · obtain ⟨d, hd, rfl⟩ := inB_D h.1 c
    have hD := h.1.D.2
    have h1 := h.t0 0
    have z0 : mup τ 10 0 0 10 0 = 0 := mup_s
    rw [if_pos c, c, if_neg b01T, obs, z0, if_neg (by decide)]
    simp only [Sum.elim_inl]
    generalize mup τ 10 0 0 = τ1 at h1 z0
    rw [ldN (by omega) (by decide), T_of10 h1.2.1 (by omega), obs, obs]
    by_cases c2 : cw σ 0 26 d = 0
    · have h19 := h1.2.2.2.2.2.2.2.1
      obtain ⟨r1, σ2, τ2, e1, e2, s2, -⟩ := S_whenOf' h1.wo hd
      rw [h19] at e1
      have w2 := (s2.wo h1.wo).t0 19 1
      obtain ⟨r2, σ3, τ3, e3, e4, s3, -⟩ := S_whenOf' w2 (d := d) (by rw [s2.cw0]; exact hd)
      rw [mup_s] at e3
      rw [if_pos c2, if_pos c2, e1, e2, obs, obs, e3, obs, obs, e4, obs, obs]
      have sT3 : sT τ1 (mup τ3 10 19 0) := by
        obtain ⟨a1, a2, a3, a4, a5, a6, a7, a8⟩ := s2.2.1
        obtain ⟨b1, b2, b3, b4, b5, b6, b7, b8⟩ := s3.2.1
        refine ⟨?_, ?_, ?_, ?_, fun j hj => ?_, fun j hj z => ?_, by rw [mup_r (by decide), b7, mup_r (by decide), a7], by rw [mup_r (by decide), b8, mup_r (by decide), a8]⟩
        · rw [mup_r (by decide), b1, mup_r (by decide), a1]
        · rw [mup_r (by decide), b2, mup_r (by decide), a2]
        · rw [mup_r (by decide), b3, mup_r (by decide), a3]
        · rw [mup_r (by decide), b4, mup_r (by decide), a4]
        · by_cases q : j = 19
          · subst q
            rw [mup_s, h19]
          · rw [mup_j q, b5 j hj, mup_j q, a5 j hj]
        · have q : j ≠ 19 := by omega
          rw [mup_j q]
          exact b6 j hj (by rw [mup_j q]; exact a6 j hj z)
      have z3 : mup τ3 10 19 0 10 0 = 0 := by rw [mup_j (by decide), s3.2.2, mup_j (by decide), s2.2.2, z0]
      have S := h1.sc (s2.1.tr s3.1) sT3
      by_cases c3 : r1 = -1
      · rw [if_pos c3, if_pos c3]; exact .ok S z3 rfl rfl
      · rw [if_neg c3, if_neg c3]
        by_cases c4 : r2 = -1
        · rw [if_pos c4, if_pos c4]; exact .ok S z3 rfl rfl
        · rw [if_neg c4, if_neg c4]; exact .ok S z3 rfl rfl
    · rw [if_neg c2, if_neg c2]
      exact .ok h1 z0 rfl rfl
  · rw [if_neg c, nBf c, if_pos b01F, obs, if_pos (by rw [mup_s]; decide)]
    simp only [Sum.elim_inr]
    exact .er0 h rfl (by decide) rfl rfl
theorem S_price (h : Wo Λ Λn σ τ) (h19 : τ 10 19 = 0) {d : Nat} (hd : d < nD (cw σ 0)) : ∃ r σ' τ', X1_priceOf Λ σ (nI d) = some (r, σ') ∧ X7_priceOf τ (nI d) = some (r, τ') ∧ Scr σ τ σ' τ' := by
  have hD := h.1.D.2
  unfold X1_priceOf X7_priceOf
  rw [ldN (by omega) (by decide), T_of10 h.2.1 (by omega), obs, obs]
  by_cases c2 : cw σ 0 26 d = 0
  · obtain ⟨r1, σ2, τ2, e1, e2, s2, -⟩ := S_whenOf' h hd
    rw [h19] at e1
    rw [if_pos c2, if_pos c2, e1, e2, obs, obs]
    by_cases c3 : r1 = -1
    · rw [if_pos c3, if_pos c3]; exact ⟨_, _, _, rfl, rfl, s2⟩
    · rw [if_neg c3, if_neg c3, s2.cw0, ldN (by omega) (by decide), T_of3 (s2.wo h).2.1 (by omega), s2.cw0, obs, obs, greater_s, obs]
      exact ⟨_, _, _, rfl, rfl, s2⟩
  · rw [if_neg c2, if_neg c2]
    exact ⟨_, _, _, rfl, rfl, Scr.rf⟩
/-! trials -/
theorem S_tries (h : Wo Λ Λn σ0 τ0) (a : Ahd 4 σ0 τ0 σ τ) {n : Nat} (hn : n ≤ 80) : ∃ σ' q, X1_tries Λ σ (nI n) = some σ' ∧ X7_goes τ (nI n) 1 = some q ∧ Ahd 4 σ0 τ0 σ' q.2 := by
  unfold X1_tries X7_goes
  have key := loop_rel (f := X1_tries_L2 Λ (nI n)) (g := X7_goes_L5 (nI n) 1) (fun i (s : Cs × Int32) (t : Mm × Int32 × Int32) => s.2 = nI i ∧ t.2.2 = nI i ∧ Ahd 4 σ0 τ0 s.1 t.1) (fun x y => Ahd 4 σ0 τ0 x y.1) n (by unfold FU; omega) (fun i s t hi hr => ?_) (s0 := (σ, 0)) (t0 := (τ, 0, 0)) ⟨rfl, rfl, a⟩
  · obtain ⟨x, y, f1, f2, q⟩ := key
    rw [f1, f2, obs, obs]
    exact ⟨_, _, rfl, rfl, q⟩
  · obtain ⟨s1, s2⟩ := s
    obtain ⟨t1, t2, t3⟩ := t
    obtain ⟨r1, r2, r3⟩ := hr
    simp only at r1 r2 r3
    subst r1 r2
    unfold X1_tries_L2 X7_goes_L5
    simp only []
    rcases Nat.lt_or_ge i n with hlt | hge
    · obtain ⟨q, s', t', f1, f2, f3⟩ := r3.stepD (Or.inr (Or.inr rfl)) h
      rw [if_neg (nI_ge hlt (by omega)), if_neg (nI_ge hlt (by omega)), f1, f2]
      simp only [obs, nI_1]
      exact Or.inl ⟨_, _, rfl, rfl, hlt, rfl, rfl, f3⟩
    · have : i = n := by omega
      subst this
      rw [if_pos (nI_le (Nat.le_refl _) (by omega)), if_pos (nI_le (Nat.le_refl _) (by omega))]
      exact Or.inr ⟨_, _, rfl, rfl, r3⟩
theorem S_trial (h : Sys Λ Λn σ τ) (a b : Int32) : CallX Λ Λn (cdx [1]) (X1_trial Λ σ a b) (X7_trial τ a b) := by
  unfold X1_trial X7_trial X7_trial_J16
  rw [in_s, isIn_s, obs, obs, X1_demand_s, obs]
  by_cases c : inB a 0 80 = true
  · obtain ⟨n, hn, rfl⟩ := inB_C (n := 80) (by decide) c
    have h1 := h.t0 0
    have z0 : mup τ 10 0 0 10 0 = 0 := mup_s
    rw [if_pos c, c, if_neg b01T, obs, if_pos t00, Option.elim_none]
    generalize mup τ 10 0 0 = τ1 at h1 z0
    obtain ⟨σ1, e1, e2, a1, -⟩ := Ahd.start h1.wo (k := 4) (Or.inr (Or.inr rfl))
    obtain ⟨σ2, q, e3, e4, a2⟩ := S_tries h1.wo a1 hn
    obtain ⟨τc, b1, b2, b3⟩ := a2.back
    have wr := a2.2.2.2.1.1
    rw [e1, obs, e2, obs, e3, obs, e4, obs, b1, X2_of_s a2.2.1, X2_brokeOnes_s a2.2.1, T_inState wr a2.2.1, T_brokenOnes wr a2.2.1]
    simp only [obs]
    by_cases c2 : b = 0
    · rw [if_pos c2, if_pos c2]; exact .ok (h1.sc a2.1 b2) (b3.trans z0) rfl rfl
    · rw [if_neg c2, if_neg c2]; exact .ok (h1.sc a2.1 b2) (b3.trans z0) rfl rfl
  · rw [if_neg c, nBf c, if_pos b01F, obs, if_neg (t01 (by decide)), Option.elim_some]
    exact .er0 h rfl (by decide) rfl rfl
end AH
