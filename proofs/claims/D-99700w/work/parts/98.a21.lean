/-! PURE: spans, ruin -/
theorem sBits_N : ∀ (n : Nat), n ≤ 8 → ∀ p : Nat → Bool, ∃ s, s < 2 ^ n ∧ sBits n p = nI s := by
  intro n
  induction n with
  | zero => exact fun _ _ => ⟨0, by decide, rfl⟩
  | succ n ih =>
    intro hn p
    obtain ⟨s, h1, h2⟩ := ih (by omega) p
    show ∃ t, t < 2 ^ (n + 1) ∧ (sBits n p ||| (if p n = true then (1 : Int32) <<< (nI n &&& 31) else 0)) = nI t
    rw [h2]
    have key : ∀ n, n < 8 → ∀ s, s < 2 ^ n → nI s ||| ((1 : Int32) <<< (nI n &&& 31)) = nI (s + 2 ^ n) := by decide +kernel
    by_cases c : p n = true
    · rw [if_pos c, key n (by omega) s h1]
      exact ⟨s + 2 ^ n, by rw [Nat.pow_succ]; omega, rfl⟩
    · rw [if_neg c]
      exact ⟨s, by rw [Nat.pow_succ]; omega, by rw [Int32.or_zero]⟩
theorem bits_8 : ∀ s, s < 256 → X7_bits (nI s) = J16_bitCount (nI s) ∧ J16_bitCount (nI s) ≠ none := by decide +kernel
def lowR (set : Int32) (n : Nat) : Nat → Option Nat
  | 0 => none
  | i + 1 => if hasB set (nI (n - 1 - i)) = true then some (n - 1 - i) else lowR set n i
theorem low_6 : ∀ n, n ≤ 6 → ∀ s, s < 2 ^ n → (match lowR (nI s) n n with | none => s = 0 | some q => s ≠ 0 ∧ q < 6 ∧ J16_numberOfTrailingZeros (nI s) = some (nI q)) := by
  intro n hn s hs
  have key : ∀ n, n ≤ 6 → ∀ s, s < 2 ^ n → (match lowR (nI s) n n with | none => decide (s = 0) | some q => decide (s ≠ 0 ∧ q < 6 ∧ J16_numberOfTrailingZeros (nI s) = some (nI q))) = true := by decide +kernel
  have := key n hn s hs
  cases e : lowR (nI s) n n with
  | none => rw [e] at this; simpa using this
  | some q => rw [e] at this; simpa using this
def ruF (c1 c3 : Int32) (x : Option Nat) : Int32 := match x with
  | none => -1
  | some q => if c1 = 0 then c3 else nI q
theorem T_ruin40 {τ : Mm} {c1 c3 set : Int32} {n : Nat} (hn : n ≤ 6) : loopO (X7_ruin_L40 τ c1 c3 set) FU (-1, nI n - 1) = some (ruF c1 c3 (lowR set n n)) := by
  refine loopO_run (step := X7_ruin_L40 τ c1 c3 set) (fun i => (ruF c1 c3 (lowR set n i), nI (n - i) - 1)) n (by unfold FU; omega) (fun i hi => ?_) ?_
  · obtain ⟨m, hm⟩ : ∃ m, n - i = m + 1 := ⟨n - i - 1, by omega⟩
    have em : n - (i + 1) = m := by omega
    have em2 : n - 1 - i = m := by omega
    have en : nI m + -1 = nI (n - (i + 1)) - 1 := by rw [em, Int32.sub_eq_add_neg]
    unfold X7_ruin_L40
    simp only []
    rw [hm, show nI (m + 1) - 1 = nI m from by rw [← nI_1, Int32.add_sub_cancel], if_neg (nI_pos (by omega)), isOf_s, obs, en]
    show _ = some (Sum.inl (ruF c1 c3 (if hasB set (nI (n - 1 - i)) = true then some (n - 1 - i) else lowR set n i), nI (n - (i + 1)) - 1))
    rw [em2]
    by_cases c : hasB set (nI m) = true
    · rw [c, if_neg b01T, if_pos rfl]
      unfold ruF
      by_cases c4 : c1 = 0
      · simp only [if_pos c4, obs]
      · simp only [if_neg c4, obs]
    · rw [nBf c, if_pos b01F, obs]
      rfl
  · unfold X7_ruin_L40
    rw [Nat.sub_self]
    exact if_pos (show nI 0 - 1 < 0 by decide)
section AI
variable {Λ : Nat → Nat → (Nat → Int32) → Int32} {Λn : Nat → Int32} {σ σ0 : Cs} {τ τ0 : Mm} {k : Nat}
theorem S_worldAt0 (h : Wo Λ Λn σ τ) : ∃ σ1, X1_worldAt Λ σ 0 = some σ1 ∧ Ahd 3 σ τ σ1 (cpM τ 2 0 381 (τ 0)) := by
  obtain ⟨σ1, e1, e2, a, ek⟩ := Ahd.start h (k := 3) (Or.inr (Or.inl rfl))
  refine ⟨σ1, ?_, a⟩
  unfold X1_worldAt
  rw [e1, obs, show loopO (X1_worldAt_L14 Λ 0) FU (σ1, 0) = some σ1 from loopO_run (step := X1_worldAt_L14 Λ 0) (fun _ => (σ1, 0)) 0 (by decide) (fun i hi => absurd hi (by omega)) rfl, obs]
theorem S_ruin (h : Sys Λ Λn σ τ) (a : Int32) : CallI Λ Λn (X1_ruin Λ σ a) (X7_ruin τ a) := by
  have h1 := h.t0 0
  have h19 := h1.2.2.2.2.2.2.2.1
  unfold X1_ruin X7_ruin
  rw [obs]
  generalize mup τ 10 0 0 = τ1 at h1 h19
  obtain ⟨σ1, e1, a1⟩ := S_worldAt0 h1.wo
  rw [e1, obs, T_putsAside, obs]
  have key := loop_lag (f := X1_ruin_L8 Λ a) (g := X7_ruin_L13 a) (fun i (s : Cs × Int32) (t : Mm × Int32 × Int32) => s.2 = nI i ∧ t.2.1 = -1 ∧ t.2.2 = nI i ∧ Ahd 3 σ τ1 s.1 t.1) (fun e (e' : Mm × Int32) => ∃ σ', Ahd 3 σ τ1 σ' e'.1 ∧ sS σ (Sum.elim (fun x => x.1) (fun x => x) e) ∧ ((∃ n s q, e = .inl (s, n, q) ∧ ((a = 0 ∧ e'.2 = n) ∨ (¬ a = 0 ∧ J16_numberOfTrailingZeros q = some e'.2))) ∨ (∃ s, e = .inr s ∧ e'.2 = -1))) 81 (by decide) (fun i s t hi hr => ?_) (s0 := (σ1, 0)) (t0 := (cpM τ1 2 0 381 (τ1 0), -1, 0)) ⟨rfl, rfl, rfl, a1⟩
  · obtain ⟨e, e', f1, f2, σ', f3, f4, f5⟩ := key
    obtain ⟨τc, b1, b2, b3⟩ := f3.back
    rw [f1, f2, obs, obs, b1, obs]
    rcases f5 with ⟨n, s, q, rfl, ⟨c, en⟩ | ⟨c, en⟩⟩ | ⟨s, rfl, en⟩
    · simp only [Sum.elim_inl]
      rw [if_pos c]
      exact ⟨_, _, _, rfl, by rw [en], h1.sc f4 b2⟩
    · simp only [Sum.elim_inl]
      rw [if_neg c, en, obs]
      exact ⟨_, _, _, rfl, rfl, h1.sc f4 b2⟩
    · exact ⟨_, _, _, rfl, by rw [en], h1.sc f4 b2⟩
  · obtain ⟨s1, s2⟩ := s
    obtain ⟨t1, t2, t3⟩ := t
    obtain ⟨r1, r2, r3, r4⟩ := hr
    simp only at r1 r2 r3 r4
    subst r1 r2 r3
    unfold X1_ruin_L8 X7_ruin_L13
    simp only []
    by_cases c : i = 81
    · subst c
      rw [if_pos (by decide), if_pos (by decide)]
      exact Or.inr (Or.inl ⟨_, _, rfl, rfl, s1, r4, r4.1, Or.inr ⟨s1, rfl, rfl⟩⟩)
    · have c80 : ¬ (80 : Int32) < nI i := fun q => by
        have := (nI_ltI (a := 80) (b := i) (by decide) (by omega)).mp q
        omega
      have wr := r4.2.2.2.1.1
      have hP := r4.2.1.P
      obtain ⟨q, s', t', f1, f2, f3⟩ := r4.step (Or.inr (Or.inl rfl)) h1.wo
      rw [h19] at f1
      obtain ⟨m, hm, em⟩ := sBits_N (nP (cw s1 3)) (by omega) (fun p => decide (¬ cw s1 3 14 p = 0))
      have eb : brB (cw s1 3) = nI m := em
      have lo := low_6 _ hP.2 m hm
      rw [if_neg c80, if_neg c80, if_pos trivial, X2_brokeOnes_s r4.2.1, T_brokenOnes wr r4.2.1, f1, f2, eb]
      simp only [obs, nI_1]
      rw [show t1 0 3 = nI (nP (cw s1 3)) from (wr 0 1 (by decide)).symm.trans hP.1, T_ruin40 hP.2]
      simp only [obs]
      have m8 : m < 2 ^ 31 := Nat.lt_of_lt_of_le hm (Nat.pow_le_pow_right (by decide) (by omega))
      cases el : lowR (nI m) (nP (cw s1 3)) (nP (cw s1 3)) with
      | none =>
        rw [el] at lo
        have lo' : m = 0 := lo
        rw [if_pos (show nI m = 0 by rw [lo']; rfl)]
        exact Or.inl ⟨_, _, rfl, rfl, by omega, rfl, rfl, rfl, f3⟩
      | some j =>
        rw [el] at lo
        obtain ⟨l1, l2, l3⟩ := lo
        rw [if_neg (show ¬ nI m = 0 from fun q => l1 ((nI_eq (b := 0) m8 (by decide)).mp q))]
        have nn : ¬ ruF a (nI i) (some j) = -1 := by
          unfold ruF
          by_cases c4 : a = 0
          · simp only [if_pos c4]
            exact nI_nm (by omega)
          · simp only [if_neg c4]
            exact nI_nm (by omega)
        refine Or.inr (Or.inr ⟨_, _, (t', ruF a (nI i) (some j)), rfl, rfl, ?_, s', f3, r4.1, Or.inl ⟨_, _, _, rfl, ?_⟩⟩)
        · rw [if_neg nn]
          split <;> rfl
        · by_cases c4 : a = 0
          · exact Or.inl ⟨c4, if_pos c4⟩
          · refine Or.inr ⟨c4, ?_⟩
            rw [show ruF a (nI i) (some j) = nI j from if_neg c4]
            exact l3
theorem cpM_same {τ : Mm} (h : ∀ b, b < 381 → τ 2 b = τ 0 b) : cpM τ 2 0 381 (τ 0) = τ := by
  funext a b
  unfold cpM
  by_cases c : a = 2 ∧ 0 ≤ b ∧ b < 0 + 381
  · obtain ⟨rfl, -, c2⟩ := c
    rw [if_pos ⟨rfl, by omega, c2⟩, Nat.sub_zero, h b (by omega)]
  · rw [if_neg c]
theorem S_span (h : Sys Λ Λn σ τ) (a b : Int32) : CallX Λ Λn (cdx [1]) (X1_span Λ σ a b) (X7_span τ a b) := by
  unfold X1_span X7_span X7_span_J16
  rw [in_s, isIn_s, obs, obs, X1_demand_s, obs]
  by_cases c : inB a 0 80 = true
  · obtain ⟨n, hn, rfl⟩ := inB_C (n := 80) (by decide) c
    have h1 := h.t0 0
    have z0 : mup τ 10 0 0 10 0 = 0 := mup_s
    rw [if_pos c, c, if_neg b01T, obs, if_pos t00, Option.elim_none]
    generalize mup τ 10 0 0 = τ1 at h1 z0
    rw [T_putsAside, obs]
    have st : sT τ1 (cpM τ1 2 0 381 (τ1 0)) := ⟨cpM_r (by decide), cpM_r (by decide), cpM_r (by decide), cpM_r (by decide), fun j _ => by rw [cpM_r (by decide)], fun j _ z => by rw [cpM_r (by decide)]; exact z, cpM_r (by decide), cpM_r (by decide)⟩
    have key := loop_rel (f := X1_span_L15 Λ (nI n) b) (g := X7_span_L37 (nI n) b) (fun i (s : Cs × Int32 × Int32) (t : Mm × Int32 × Int32) => s.2.1 = t.2.1 ∧ s.2.2 = nI (i + 1) ∧ t.2.2 = nI (i + 1) ∧ Scr σ τ1 s.1 t.1 ∧ ∀ b, b < 381 → t.1 2 b = t.1 0 b) (fun x y => x.2 = y.2 ∧ Scr σ τ1 x.1 y.1) 6 (by decide) (fun i s t hi hr => ?_) (s0 := (σ, -1, 1)) (t0 := (cpM τ1 2 0 381 (τ1 0), -1, 1)) ⟨rfl, rfl, rfl, ⟨sS.rf, st, show cpM τ1 2 0 381 (τ1 0) 10 0 = τ1 10 0 by rw [cpM_r (by decide)]⟩, fun b hb => show cpM τ1 2 0 381 (τ1 0) 2 b = cpM τ1 2 0 381 (τ1 0) 0 b by rw [cpM_in (by omega) (by omega), cpM_r (by decide)]; rfl⟩
    · obtain ⟨x, y, f1, f2, q1, q2⟩ := key
      rw [f1, f2, obs, obs]
      exact .ok (h1.sc q2.1 q2.2.1) (q2.2.2.trans z0) rfl (by rw [q1])
    · obtain ⟨s1, s2, s3⟩ := s
      obtain ⟨t1, t2, t3⟩ := t
      obtain ⟨r1, r2, r3, r4, r5⟩ := hr
      simp only at r1 r2 r3 r4 r5
      subst r1 r2 r3
      unfold X1_span_L15 X7_span_L37
      simp only []
      by_cases c6 : i = 6
      · subst c6
        rw [if_pos (by decide), if_pos (by decide)]
        exact Or.inr ⟨_, _, rfl, rfl, rfl, r4⟩
      · have c7 : ¬ (6 : Int32) < nI (i + 1) := fun q => by
          have := (nI_ltI (a := 6) (b := i + 1) (by decide) (by omega)).mp q
          omega
        have wo := r4.wo h1.wo
        obtain ⟨σ1, e1, -, a1, ek⟩ := Ahd.start wo (k := 4) (Or.inr (Or.inr rfl))
        rw [cpM_same r5] at a1
        have a2 : Ahd 4 s1 t1 (cwu σ1 4 (mup (cw σ1 4) 0 8 (nI (i + 1)))) (mup t1 0 10 (nI (i + 1))) :=
          ⟨a1.1.tr (sS.wld (Or.inr (Or.inr rfl))), by rw [cw_cwu]; exact a1.2.1.mup (by decide) (by decide) trivial, a1.2.2.1, by rw [cw_cwu]; exact a1.2.2.2.1.tr (Tr.put a1.2.2.2.1.1 (r := 0) (j := 8) (by decide) _), by rw [cw_cwu]; exact a1.2.2.2.2.tr (sameC_mup (by decide))⟩
        obtain ⟨σ2, q, e3, e4, a3⟩ := S_tries wo a2 hn
        have wr := a3.2.2.2.1.1
        obtain ⟨τc, b1, b2, b3⟩ := a3.back
        have b4 : ∀ b, b < 381 → τc 2 b = τc 0 b := by
          intro b hb
          have := b1
          rw [T_comesBack] at this
          rw [← Option.some.inj this, cpM_r (by decide), cpM_in (by omega) (by omega)]
          rfl
        obtain ⟨m, hm, em⟩ := sBits_N (nD (cw σ2 4)) (by have := a3.2.1.D.2; omega) (fun d => decide (¬ cw σ2 4 15 d = 0))
        have eb : paB (cw σ2 4) = nI m := em
        have m8 : m < 256 := Nat.lt_of_lt_of_le hm (Nat.pow_le_pow_right (by decide) (a3.2.1.D.2))
        obtain ⟨g1, g2⟩ := bits_8 m m8
        rw [if_neg c7, if_neg c7, e1, obs, obs, e3, obs, show (10 : Int32) = nI 10 from rfl, stoN (by decide) (by decide), obs, e4, obs, T_paidOnes wr a3.2.1, X2_paidOnes_s a3.2.1, obs, obs, eb, g1]
        cases eg : J16_bitCount (nI m) with
        | none => exact absurd eg g2
        | some v =>
          rw [b1, nI_1]
          simp only [obs, lesser_s, greater_s]
          have sc : Scr σ τ1 σ2 τc := r4.tr ⟨a3.1, b2, b3⟩
          by_cases c8 : s2 = -1
          · rw [if_pos c8, if_pos c8]
            exact Or.inl ⟨_, _, rfl, rfl, by omega, rfl, rfl, rfl, sc, b4⟩
          · rw [if_neg c8, if_neg c8]
            by_cases c9 : b = 0
            · rw [if_pos c9, if_pos c9]
              exact Or.inl ⟨_, _, rfl, rfl, by omega, rfl, rfl, rfl, sc, b4⟩
            · rw [if_neg c9, if_neg c9]
              exact Or.inl ⟨_, _, rfl, rfl, by omega, rfl, rfl, rfl, sc, b4⟩
  · rw [if_neg c, nBf c, if_pos b01F, obs, if_neg (t01 (by decide)), Option.elim_some]
    exact .er0 h rfl (by decide) rfl rfl
end AI
