/-! PURE: what is asked, part 1 -/
def cdx : List Nat → Nat → Int32
  | [], _ => 0
  | a :: l, n => if n = a then 1 else if cdx l n = 0 then 0 else cdx l n + 1
def CallR (Λ : Nat → Nat → (Nat → Int32) → Int32) (Λn : Nat → Int32) (σ : Cs) (x1 : Option Int32) (x7 : Option (Int32 × Mm)) : Prop := ∃ r τ', x1 = some r ∧ x7 = some (r, τ') ∧ Sys Λ Λn σ τ'
theorem b01T : ¬ b01 true = 0 := by decide
theorem b01F : b01 false = 0 := by decide
theorem nBf {b : Bool} (h : ¬ b = true) : b = false := by cases b <;> simp_all
theorem inB_N {a : Int32} {n : Nat} (hn : n ≤ 400) (h : inB a 0 (nI n - 1) = true) : ∃ k, k < n ∧ a = nI k := by
  unfold inB at h
  simp only [Bool.and_eq_true, Bool.not_eq_true', decide_eq_false_iff_not] at h
  obtain ⟨h1, h2⟩ := h
  obtain ⟨j, hj, rfl⟩ := nI_of h1
  cases n with
  | zero => exact absurd (Int32.lt_of_lt_of_le (by decide : nI 0 - 1 < 0) (Int32.not_lt.mp h1)) h2
  | succ m =>
    rw [← nI_1, Int32.add_sub_cancel] at h2
    have h3 : ¬ m < j := fun q => h2 ((nI_ltI (a := m) (b := j) (by omega) hj).mpr q)
    exact ⟨j, by omega, rfl⟩
theorem inB_C {a : Int32} {n : Nat} (hn : n ≤ 400) (h : inB a 0 (nI n) = true) : ∃ k, k ≤ n ∧ a = nI k := by
  unfold inB at h
  simp only [Bool.and_eq_true, Bool.not_eq_true', decide_eq_false_iff_not] at h
  obtain ⟨h1, h2⟩ := h
  obtain ⟨j, hj, rfl⟩ := nI_of h1
  have h3 : ¬ n < j := fun q => h2 ((nI_ltI (a := n) (b := j) (by omega) hj).mpr q)
  exact ⟨j, by omega, rfl⟩
theorem loop_both {S E : Type} {f g : S → Option (S ⊕ E)} (I : Nat → S → Prop) (N : Nat) (hN : N < FU) (hs : ∀ i s, i ≤ N → I i s → ∃ o, f s = some o ∧ g s = some o ∧ ((∃ s', o = .inl s' ∧ i < N ∧ I (i + 1) s') ∨ ∃ e, o = .inr e)) {s0 : S} (h0 : I 0 s0) : ∃ e, loopO f FU s0 = some e ∧ loopO g FU s0 = some e := by
  have key : ∀ k n i s, i + k = N → k < n → I i s → ∃ e, loopO f n s = some e ∧ loopO g n s = some e := by
    intro k
    induction k with
    | zero =>
      intro n i s h1 h2 h3
      cases n with
      | zero => omega
      | succ n =>
        obtain ⟨o, e1, e2, h4⟩ := hs i s (by omega) h3
        rcases h4 with ⟨s', -, h5, -⟩ | ⟨e, rfl⟩
        · omega
        · refine ⟨e, ?_, ?_⟩
          · show (f s).bind _ = _
            rw [e1]
            rfl
          · show (g s).bind _ = _
            rw [e2]
            rfl
    | succ k ih =>
      intro n i s h1 h2 h3
      cases n with
      | zero => omega
      | succ n =>
        obtain ⟨o, e1, e2, h4⟩ := hs i s (by omega) h3
        rcases h4 with ⟨s', rfl, h5, h6⟩ | ⟨e, rfl⟩
        · obtain ⟨x, e3, e4⟩ := ih n (i + 1) s' (by omega) (by omega) h6
          refine ⟨x, ?_, ?_⟩
          · show (f s).bind _ = _
            rw [e1]
            exact e3
          · show (g s).bind _ = _
            rw [e2]
            exact e4
        · refine ⟨e, ?_, ?_⟩
          · show (f s).bind _ = _
            rw [e1]
            rfl
          · show (g s).bind _ = _
            rw [e2]
            rfl
  exact key N FU 0 s0 (by omega) hN h0
section AS
variable {Λ : Nat → Nat → (Nat → Int32) → Int32} {Λn : Nat → Int32} {σ : Cs} {τ : Mm}
theorem Sys.t0 (h : Sys Λ Λn σ τ) (y : Int32) : Sys Λ Λn σ (mup τ 10 0 y) := h.sc .rf .up
theorem Sys.wr0 (h : Sys Λ Λn σ τ) (y : Int32) : WR (cw σ 0) (mup τ 10 0 y 0) := by rw [mup_r (by decide)]; exact h.2.1
theorem CallX.ok {code : Nat → Int32} {x1 : Option Xo} {x7 : Option (Int32 × Mm)} {r : Int32} {σ' : Cs} {τ' : Mm} (s : Sys Λ Λn σ' τ') (z : τ' 10 0 = 0) (e1 : x1 = some (.inl (r, σ'))) (e7 : x7 = some (r, τ')) : CallX Λ Λn code x1 x7 := ⟨_, r, τ', e1, e7, Or.inl ⟨σ', rfl, z, s⟩⟩
theorem CallX.er {code : Nat → Int32} {x1 : Option Xo} {x7 : Option (Int32 × Mm)} {r : Int32} {n : Nat} {σ' : Cs} {τ' : Mm} (s : Sys Λ Λn σ' τ') (e1 : x1 = some (.inr (n, σ'))) (e7 : x7 = some (r, τ')) (z : τ' 10 0 = code n) (nz : ¬ code n = 0) : CallX Λ Λn code x1 x7 := ⟨_, r, τ', e1, e7, Or.inr ⟨n, σ', rfl, z, nz, s⟩⟩
theorem CallX.ok0 {code : Nat → Int32} {x1 : Option Xo} {x7 : Option (Int32 × Mm)} {r : Int32} (s : Sys Λ Λn σ τ) (e1 : x1 = some (.inl (r, σ))) (e7 : x7 = some (r, mup τ 10 0 0)) : CallX Λ Λn code x1 x7 := .ok (s.t0 0) mup_s e1 e7
theorem CallX.er0 {code : Nat → Int32} {x1 : Option Xo} {x7 : Option (Int32 × Mm)} {r : Int32} {n : Nat} {y : Int32} (s : Sys Λ Λn σ τ) (hy : code n = y) (nz : ¬ y = 0) (e1 : x1 = some (.inr (n, σ))) (e7 : x7 = some (r, mup τ 10 0 y)) : CallX Λ Λn code x1 x7 := .er (s.t0 y) e1 e7 (mup_s.trans hy.symm) (by rw [hy]; exact nz)
theorem t00 : mup τ 10 0 0 10 0 ≤ 0 := by rw [mup_s]; decide
theorem t01 {y : Int32} (h : ¬ y ≤ 0) : ¬ mup τ 10 0 y 10 0 ≤ 0 := by rw [mup_s]; exact h
theorem X1_there_s (a b : Int32) : X1_there a b = some (if inB a 0 (b - 1) = true then none else some 0) := by
  unfold X1_there
  rw [in_s, obs]
  cases inB a 0 (b - 1) <;> rfl
theorem X1_question_s (a b : Int32) : X1_question a b = some (if inB a 0 b = true then none else some 3) := by
  unfold X1_question
  rw [in_s, obs]
  cases inB a 0 b <;> rfl
theorem X1_demand_s (b : Bool) : X1_demand (b01 b) = some (if b = true then none else some 1) := by cases b <;> rfl
theorem X1_can_s (b : Bool) : X1_can (b01 b) = some (if b = true then none else some 2) := by cases b <;> rfl
theorem X1_partyAt_s (a : Int32) : X1_partyAt σ a = some (if inB a 0 (cw σ 0 0 1 - 1) = true then .inl (0, σ) else .inr (0, σ)) := by
  unfold X1_partyAt
  rw [X1_there_s, obs]
  cases inB a 0 (cw σ 0 0 1 - 1) <;> rfl
theorem X1_inkAt_s (a : Int32) : X1_inkAt σ a = some (if inB a 0 (cw σ 0 0 2 - 1) = true then .inl (0, σ) else .inr (0, σ)) := by
  unfold X1_inkAt
  rw [X1_there_s, obs]
  cases inB a 0 (cw σ 0 0 2 - 1) <;> rfl
theorem X1_deedAt_s (a : Int32) : X1_deedAt σ a = some (if inB a 0 (cw σ 0 0 3 - 1) = true then .inl (0, σ) else .inr (0, σ)) := by
  unfold X1_deedAt
  rw [X1_there_s, obs]
  cases inB a 0 (cw σ 0 0 3 - 1) <;> rfl
theorem T_isParty {w : Mm} (h : WR w (τ 0)) (a : Int32) : X7_isParty τ a = some (b01 (inB a 0 (w 0 1 - 1))) := by
  unfold X7_isParty
  rw [isIn_s, obs, zb_b01, obs, show τ 0 3 = w 0 1 from (h 0 1 (by decide)).symm]
theorem T_isInk {w : Mm} (h : WR w (τ 0)) (a : Int32) : X7_isInk τ a = some (b01 (inB a 0 (w 0 2 - 1))) := by
  unfold X7_isInk
  rw [isIn_s, obs, zb_b01, obs, show τ 0 4 = w 0 2 from (h 0 2 (by decide)).symm]
theorem T_isDeed {w : Mm} (h : WR w (τ 0)) (a : Int32) : X7_isDeed τ a = some (b01 (inB a 0 (w 0 3 - 1))) := by
  unfold X7_isDeed
  rw [isIn_s, obs, zb_b01, obs, show τ 0 5 = w 0 3 from (h 0 3 (by decide)).symm]
theorem inB_P {w : Mm} (h : WI w) {a : Int32} (c : inB a 0 (w 0 1 - 1) = true) : ∃ k, k < nP w ∧ a = nI k := by
  rw [h.P.1] at c
  exact inB_N (by have := h.P.2; omega) c
theorem inB_K {w : Mm} (h : WI w) {a : Int32} (c : inB a 0 (w 0 2 - 1) = true) : ∃ k, k < nK w ∧ a = nI k := by
  rw [h.K.1] at c
  exact inB_N (by have := h.K.2; omega) c
theorem inB_D {w : Mm} (h : WI w) {a : Int32} (c : inB a 0 (w 0 3 - 1) = true) : ∃ k, k < nD w ∧ a = nI k := by
  rw [h.D.1] at c
  exact inB_N (by have := h.D.2; omega) c
/-! reads, blank, valid, broken, fault -/
theorem S_reads (h : Sys Λ Λn σ τ) : CallR Λ Λn σ (X1_reads σ) (X7_reads τ) := by
  refine ⟨stB (cw σ 0) 1, mup τ 10 0 0, ?_, ?_, h.t0 0⟩
  · unfold X1_reads
    rw [X2_of_s h.1, obs]
  · unfold X7_reads
    rw [obs, T_inState (h.wr0 0) h.1, obs]
theorem S_blank (h : Sys Λ Λn σ τ) : CallR Λ Λn σ (X1_blank σ) (X7_blank τ) := by
  refine ⟨stB (cw σ 0) 0, mup τ 10 0 0, ?_, ?_, h.t0 0⟩
  · unfold X1_blank
    rw [X2_of_s h.1, obs]
  · unfold X7_blank
    rw [obs, T_inState (h.wr0 0) h.1, obs]
theorem S_valid (h : Sys Λ Λn σ τ) : CallR Λ Λn σ (X1_valid σ) (X7_valid τ) := by
  have w0 := h.wr0 0
  obtain ⟨e, hD⟩ := h.1.D
  refine ⟨vaB (cw σ 0) (stB (cw σ 0) 1), mup τ 10 0 0, ?_, ?_, h.t0 0⟩
  · unfold X1_valid
    rw [X2_of_s h.1, obs, X2_valid_s h.1, obs]
  · unfold X7_valid
    rw [obs]
    generalize mup τ 10 0 0 = τ0 at w0
    refine ob1 (loop_bits (fun d => valB (cw σ 0) d (stB (cw σ 0) 1)) (nD (cw σ 0)) (FU8 hD) (fun i acc hi => ?_) (fun acc => ?_)) rfl
    · unfold X7_valid_L9
      rw [if_neg (by rw [T_n5 w0 h.1]; exact nI_ge hi (by omega)), T_isValidNow w0 h.1 (by omega)]
      cases c : valB (cw σ 0) i (stB (cw σ 0) 1) <;> simp [b01, nI_1]
    · unfold X7_valid_L9
      rw [if_pos (by rw [T_n5 w0 h.1]; exact nI_le (Nat.le_refl _) (by omega))]
theorem S_broken (h : Sys Λ Λn σ τ) : CallR Λ Λn σ (X1_broken σ) (X7_broken τ) := by
  refine ⟨brB (cw σ 0), mup τ 10 0 0, ?_, ?_, h.t0 0⟩
  · unfold X1_broken
    rw [X2_brokeOnes_s h.1, obs]
  · unfold X7_broken
    rw [obs, T_brokenOnes (h.wr0 0) h.1, obs]
theorem S_fault (h : Sys Λ Λn σ τ) : CallR Λ Λn σ (X1_fault σ) (X7_fault τ) := by
  refine ⟨co σ 1 5, mup τ 10 0 0, rfl, ?_, h.t0 0⟩
  unfold X7_fault
  rw [obs, mup_j (by decide), h.2.2.2.2.2.2.1]
/-! chains -/
theorem isM.mono {x : Int32} {a b : Nat} (h : isM x a) (hab : a ≤ b) : isM x b := by
  rcases h with h | ⟨k, h1, h2⟩
  · exact Or.inl h
  · exact Or.inr ⟨k, by omega, h2⟩
theorem nI_nm {k : Nat} (h : k < 2 ^ 31) : ¬ nI k = -1 := fun e => by
  have := nI_pos h
  rw [e] at this
  exact this (by decide)
theorem chain_both {τ : Mm} (h : WI (cw σ 0)) (hr : WR (cw σ 0) (τ 0)) {d : Nat} (hd : d < nD (cw σ 0)) : ∃ r, X1_chainOf σ (nI d) = some r ∧ X7_chainOf τ (nI d) = some r := by
  obtain ⟨e, hD⟩ := h.D
  have key := loop_both (f := X1_chainOf_L4 σ) (g := X7_chainOf_L4 τ) (fun i (s : Int32 × Int32) => isM s.2 (nD (cw σ 0) - i)) (nD (cw σ 0)) (FU8 hD) (fun i s hi hs => ?_) (s0 := (0, nI d)) (Or.inr ⟨d, by omega, rfl⟩)
  · obtain ⟨r, e1, e2⟩ := key
    refine ⟨r, ?_, ?_⟩
    · unfold X1_chainOf
      rw [e1, obs]
    · unfold X7_chainOf
      rw [e2, obs]
  · obtain ⟨acc, x⟩ := s
    rcases hs with hx | ⟨k, hk, hx⟩
    · have hx' : x = -1 := hx
      subst hx'
      exact ⟨.inr acc, rfl, rfl, Or.inr ⟨_, rfl⟩⟩
    · have hx' : x = nI k := hx
      subst hx'
      refine ⟨.inl (acc ||| (1 <<< (nI k &&& 31)), cw σ 0 21 k), ?_, ?_, Or.inl ⟨_, rfl, by omega, ?_⟩⟩
      · unfold X1_chainOf_L4
        simp only []
        rw [if_neg (nI_nm (by omega)), obs, ldN (by omega) (by decide), obs]
      · unfold X7_chainOf_L4
        simp only []
        rw [if_neg (nI_nm (by omega)), obs, T_of5 hr (by omega), obs]
      · exact (h.lean (show k < nD (cw σ 0) by omega)).mono (by omega)
theorem S_chain (h : Sys Λ Λn σ τ) (a : Int32) : CallX Λ Λn (cdx [0]) (X1_chain σ a) (X7_chain τ a) := by
  unfold X1_chain X7_chain
  rw [X1_deedAt_s, T_isDeed h.2.1, obs, obs]
  by_cases c : inB a 0 (cw σ 0 0 3 - 1) = true
  · obtain ⟨k, hk, rfl⟩ := inB_D h.1 c
    obtain ⟨r, e1, e2⟩ := chain_both h.1 (h.wr0 0) hk
    unfold X7_chain_J14
    rw [if_pos c, c, if_neg b01T, obs, if_pos t00, e2, obs]
    simp only [Sum.elim_inl]
    rw [e1, obs]
    exact .ok0 h rfl rfl
  · unfold X7_chain_J14
    rw [if_neg c, nBf c, if_pos b01F, obs, if_neg (t01 (by decide))]
    exact .er0 h rfl (by decide) rfl rfl
theorem S_hangs (h : Sys Λ Λn σ τ) (a : Int32) : CallX Λ Λn (cdx [0]) (X1_hangs σ a) (X7_hangs τ a) := by
  unfold X1_hangs X7_hangs
  rw [X1_deedAt_s, T_isDeed h.2.1, obs, obs]
  by_cases c : inB a 0 (cw σ 0 0 3 - 1) = true
  · obtain ⟨k, hk, rfl⟩ := inB_D h.1 c
    obtain ⟨e, hD⟩ := h.1.D
    have w0 := h.wr0 0
    have key := loop_both (f := X1_hangs_L9 σ (nI k)) (g := X7_hangs_L30 (mup τ 10 0 0) (nI k)) (fun i (s : Int32 × Int32) => s.2 = nI i) (nD (cw σ 0)) (FU8 hD) (fun i s hi hs => ?_) (s0 := (0, 0)) rfl
    · obtain ⟨r, e1, e2⟩ := key
      unfold X7_hangs_J14
      rw [if_pos c, c, if_neg b01T, obs, if_pos t00, e2, obs]
      simp only [Sum.elim_inl]
      rw [e1, obs]
      exact .ok0 h rfl rfl
    · obtain ⟨acc, x⟩ := s
      have hx : x = nI i := hs
      subst hx
      unfold X1_hangs_L9 X7_hangs_L30
      simp only []
      rw [T_n5 w0 h.1, e]
      rcases Nat.lt_or_ge i (nD (cw σ 0)) with hlt | hge
      · obtain ⟨r, e1, e2⟩ := chain_both h.1 w0 hlt
        rw [if_neg (nI_ge hlt (by omega)), if_neg (nI_ge hlt (by omega)), e1, e2]
        simp only [obs, has_s, isOf_s, nI_1]
        by_cases c1 : nI i = nI k
        · rw [if_pos c1]
          exact ⟨_, rfl, rfl, Or.inl ⟨_, rfl, hlt, rfl⟩⟩
        · rw [if_neg c1]
          by_cases c2 : b01 (hasB r (nI k)) = 0
          · rw [if_pos c2]
            exact ⟨_, rfl, rfl, Or.inl ⟨_, rfl, hlt, rfl⟩⟩
          · rw [if_neg c2]
            exact ⟨_, rfl, rfl, Or.inl ⟨_, rfl, hlt, rfl⟩⟩
      · have : i = nD (cw σ 0) := by omega
        subst this
        rw [if_pos (nI_le (Nat.le_refl _) (by omega)), if_pos (nI_le (Nat.le_refl _) (by omega))]
        exact ⟨_, rfl, rfl, Or.inr ⟨_, rfl⟩⟩
  · unfold X7_hangs_J14
    rw [if_neg c, nBf c, if_pos b01F, obs, if_neg (t01 (by decide))]
    exact .er0 h rfl (by decide) rfl rfl
/-! what is owed in a reading -/
def ntV (w : Mm) (p : Int32) (reads : Int32) (d : Nat) : Int32 := if w 15 d = 1 then 0 else if valB w d reads = false then 0 else if w 18 d = p then w 19 d else if w 17 d = p then - w 19 d else 0
def netV (w : Mm) (p reading : Int32) : Int32 := sumI (nD w) (ntV w p (stB w 1 ||| (reading &&& stB w 0)))
theorem add0 (x : Int32) : x + 0 = x := Int32.add_zero x
theorem X5_net_s (h : WI (cw σ 0)) (p rd : Int32) : X5_net σ p rd = some (netV (cw σ 0) p rd) := by
  obtain ⟨e, hD⟩ := h.D
  unfold X5_net
  rw [X2_of_s h, X2_of_s h, obs, obs, obs]
  refine ob1 (loop_sum (ntV (cw σ 0) p (stB (cw σ 0) 1 ||| (rd &&& stB (cw σ 0) 0))) (nD (cw σ 0)) (FU8 hD) (fun i acc hi => ?_) (fun acc => ?_)) rfl
  · have ne := h.2 i hi
    have z : ∀ x : Int32, x - 0 = x := Int32.sub_zero
    unfold X5_net_L32 X5_net_J32_118 ntV
    simp only []
    rw [if_neg (by rw [e]; exact nI_ge hi (by omega)), ldN (by omega) (by decide), ldN (by omega) (by decide), ldN (by omega) (by decide), ldN (by omega) (by decide), X2_isValid_s (by omega)]
    simp only [obs, b01_0, nI_1]
    rcases h.paid (show i < 8 by omega) with c1 | c1
    · rw [if_pos c1, if_neg (show ¬ cw σ 0 15 i = 1 by rw [c1]; decide)]
      by_cases c2 : valB (cw σ 0) i (stB (cw σ 0) 1 ||| (rd &&& stB (cw σ 0) 0)) = false
      · rw [if_pos c2, if_pos c2, add0]
      · rw [if_neg c2, if_neg c2]
        by_cases c3 : cw σ 0 18 i = p
        · rw [if_pos c3, if_pos c3, if_neg (fun q => ne (q.trans c3.symm)), z]
        · rw [if_neg c3, if_neg c3]
          by_cases c4 : cw σ 0 17 i = p
          · rw [if_pos c4, if_pos c4, add0, Int32.sub_eq_add_neg]
          · rw [if_neg c4, if_neg c4, z]
    · rw [if_neg (show ¬ cw σ 0 15 i = 0 by rw [c1]; decide), if_pos c1, add0]
  · unfold X5_net_L32
    rw [if_pos (by rw [e]; exact nI_le (Nat.le_refl _) (by omega))]
theorem T_netOf {w : Mm} (h : WI w) (hr : WR w (τ 0)) (p rd : Int32) : X7_netOf τ p rd = some (netV w p rd) := by
  obtain ⟨e, hD⟩ := h.D
  unfold X7_netOf
  rw [T_inState hr h, T_inState hr h, obs, obs, obs]
  refine ob1 (loop_sum (ntV w p (stB w 1 ||| (rd &&& stB w 0))) (nD w) (FU8 hD) (fun i acc hi => ?_) (fun acc => ?_)) rfl
  · unfold X7_netOf_L20 ntV
    simp only []
    rw [if_neg (by rw [T_n5 hr h]; exact nI_ge hi (by omega)), T_of11 hr (by omega), T_of1 hr (by omega), T_of2 hr (by omega), T_of3 hr (by omega), T_isValid hr (by omega)]
    simp only [obs, b01_0, nI_1]
    by_cases c1 : w 15 i = 1
    · rw [if_pos c1, if_pos c1, add0]
    · rw [if_neg c1, if_neg c1]
      by_cases c2 : valB w i (stB w 1 ||| (rd &&& stB w 0)) = false
      · rw [if_pos c2, if_pos c2, add0]
      · rw [if_neg c2, if_neg c2]
        by_cases c3 : w 18 i = p
        · rw [if_pos c3, if_pos c3]
        · rw [if_neg c3, if_neg c3]
          by_cases c4 : w 17 i = p
          · rw [if_pos c4, if_pos c4]
          · rw [if_neg c4, if_neg c4]
  · unfold X7_netOf_L20
    rw [if_pos (by rw [T_n5 hr h]; exact nI_le (Nat.le_refl _) (by omega))]
theorem S_net (h : Sys Λ Λn σ τ) (a b : Int32) : CallX Λ Λn (cdx [0]) (X1_net σ a b) (X7_net τ a b) := by
  unfold X1_net X7_net
  rw [X1_partyAt_s, T_isParty h.2.1, obs, obs]
  by_cases c : inB a 0 (cw σ 0 0 1 - 1) = true
  · unfold X7_net_J14
    rw [if_pos c, c, if_neg b01T, obs, if_pos t00, T_netOf h.1 (h.wr0 0), obs]
    simp only [Sum.elim_inl]
    rw [X5_net_s h.1, obs]
    exact .ok0 h rfl rfl
  · unfold X7_net_J14
    rw [if_neg c, nBf c, if_pos b01F, obs, if_neg (t01 (by decide))]
    exact .er0 h rfl (by decide) rfl rfl
end AS
