/-! PURE: debts -/
def bI (x : Int32) (b : Nat) : Prop := -(b : Int) ≤ x.toInt ∧ x.toInt ≤ (b : Int)
theorem bI.mono {x : Int32} {a b : Nat} (h : bI x a) (hab : a ≤ b) : bI x b := ⟨by have := h.1; omega, by have := h.2; omega⟩
theorem bI_nI {k b : Nat} (h : k ≤ b) (hb : b < 2 ^ 31) : bI (nI k) b := by
  unfold bI
  rw [nI_toInt (by omega)]
  omega
theorem bI_0 {b : Nat} : bI 0 b := by
  unfold bI
  rw [show (0 : Int32).toInt = 0 from rfl]
  omega
theorem bI_add {x y : Int32} {a b : Nat} (hx : bI x a) (hy : bI y b) (h : a + b < 2 ^ 31) : (x + y).toInt = x.toInt + y.toInt ∧ bI (x + y) (a + b) := by
  obtain ⟨h1, h2⟩ := hx
  obtain ⟨h3, h4⟩ := hy
  have e : (x + y).toInt = x.toInt + y.toInt := by
    rw [Int32.toInt_add]
    apply Int.bmod_eq_of_le <;> omega
  refine ⟨e, ?_⟩
  unfold bI
  rw [e]
  omega
theorem bI_neg {x : Int32} {a : Nat} (hx : bI x a) (h : a < 2 ^ 31) : (-x).toInt = - x.toInt ∧ bI (-x) a := by
  obtain ⟨h1, h2⟩ := hx
  have e : (-x).toInt = - x.toInt := by
    rw [Int32.toInt_neg]
    apply Int.bmod_eq_of_le <;> omega
  refine ⟨e, ?_⟩
  unfold bI
  rw [e]
  omega
theorem bI_sum {n c : Nat} {f : Nat → Int32} (h : ∀ i, i < n → bI (f i) c) (hb : n * c < 2 ^ 31) : bI (sumI n f) (n * c) := by
  induction n with
  | zero => exact bI_0
  | succ n ih =>
    have e : (n + 1) * c = n * c + c := Nat.succ_mul n c
    show bI (sumI n f + f n) _
    rw [e]
    exact (bI_add (ih (fun i hi => h i (by omega)) (by omega)) (h n (by omega)) (by omega)).2
def m0 (x : Int32) : Int32 := if 0 < x then x else 0
theorem m0_le {x : Int32} {b : Nat} (h : bI x b) (hb : b < 2 ^ 31) : bI (m0 x) b := by
  unfold m0
  split
  · exact h
  · exact bI_0
theorem m0_sub {x : Int32} {b : Nat} (h : bI x b) (hb : b < 2 ^ 31) : m0 x - m0 (-x) = x := by
  obtain ⟨e, h2⟩ := bI_neg h hb
  unfold m0
  have l1 : (0 : Int32) < x ↔ 0 < x.toInt := Int32.lt_iff_toInt_lt
  have l2 : (0 : Int32) < -x ↔ 0 < - x.toInt := by rw [Int32.lt_iff_toInt_lt, e]; exact Iff.rfl
  by_cases c : 0 < x.toInt
  · rw [if_pos (l1.mpr c), if_neg (fun q => by have := l2.mp q; omega), Int32.sub_zero]
  · rw [if_neg (fun q => c (l1.mp q))]
    by_cases c2 : 0 < - x.toInt
    · rw [if_pos (l2.mpr c2), Int32.zero_sub, Int32.neg_neg]
    · rw [if_neg (fun q => c2 (l2.mp q)), Int32.sub_self]
      exact Int32.toInt_inj.mp (show (0 : Int32).toInt = x.toInt by rw [show (0 : Int32).toInt = 0 from rfl]; omega)
theorem sumI_neg {n : Nat} {f : Nat → Int32} : sumI n (fun i => - f i) = - sumI n f := by
  induction n with
  | zero => exact (by decide : (0 : Int32) = -0)
  | succ n ih =>
    show sumI n (fun i => - f i) + - f n = - (sumI n f + f n)
    rw [ih, Int32.neg_add, Int32.sub_eq_add_neg]
def owT (w : Mm) (a b but : Int32) (d : Nat) : Int32 := if valB w d (stB w 1) = false then 0 else if w 15 d = 1 then 0 else if w 17 d = but then 0 else if w 18 d = but then 0 else if w 17 d = a ∧ w 18 d = b then w 19 d else if w 17 d = b ∧ w 18 d = a then - w 19 d else 0
def owV (w : Mm) (a b but : Int32) : Int32 := sumI (nD w) (owT w a b but)
theorem owT_neg {w : Mm} (h : WI w) {a b but : Int32} {d : Nat} (hd : d < nD w) : owT w b a but d = - owT w a b but d := by
  have ne := h.2 d hd
  unfold owT
  by_cases c1 : valB w d (stB w 1) = false
  · rw [if_pos c1, if_pos c1]; rfl
  rw [if_neg c1, if_neg c1]
  by_cases c2 : w 15 d = 1
  · rw [if_pos c2, if_pos c2]; rfl
  rw [if_neg c2, if_neg c2]
  by_cases c3 : w 17 d = but
  · rw [if_pos c3, if_pos c3]; rfl
  rw [if_neg c3, if_neg c3]
  by_cases c4 : w 18 d = but
  · rw [if_pos c4, if_pos c4]; rfl
  rw [if_neg c4, if_neg c4]
  by_cases c5 : w 17 d = a ∧ w 18 d = b
  · have c6 : ¬ (w 17 d = b ∧ w 18 d = a) := fun q => ne (c5.1.trans q.2.symm)
    rw [if_pos c5, if_neg c6, if_pos c5]
  · rw [if_neg c5, if_neg c5]
    by_cases c6 : w 17 d = b ∧ w 18 d = a
    · rw [if_pos c6, if_pos c6, Int32.neg_neg]
    · rw [if_neg c6, if_neg c6]; rfl
theorem owV_neg {w : Mm} (h : WI w) {a b but : Int32} : owV w b a but = - owV w a b but := by
  unfold owV
  rw [← sumI_neg]
  exact sumI_ext (fun i hi => owT_neg h hi)
theorem owT_bI {w : Mm} (h : WI w) {a b but : Int32} {d : Nat} (hd : d < nD w) : bI (owT w a b but d) 99 := by
  obtain ⟨k, hk, e⟩ := h.sum hd
  have b1 : bI (w 19 d) 99 := by rw [e]; exact bI_nI hk (by decide)
  unfold owT
  repeat' split
  all_goals first | exact bI_0 | exact b1 | exact (bI_neg b1 (by decide)).2
theorem owV_bI {w : Mm} (h : WI w) {a b but : Int32} : bI (owV w a b but) 792 := by
  have hD := h.D.2
  exact (bI_sum (c := 99) (fun i hi => owT_bI h hi) (by omega)).mono (by omega)
def clV (w : Mm) (but : Int32) : Int32 := sumI (nP w) (fun a => m0 (sumI (nP w) (fun b => if nI b = nI a then 0 else owV w (nI a) (nI b) but)))
theorem clV_bI {w : Mm} (h : WI w) {but : Int32} : bI (clV w but) 28512 := by
  have hP := h.P.2
  refine (bI_sum (c := 4752) (fun i hi => ?_) (by omega)).mono (by omega)
  refine m0_le ?_ (by decide)
  refine (bI_sum (c := 792) (fun j hj => ?_) (by omega)).mono (by omega)
  split
  · exact bI_0
  · exact owV_bI h
section AJ
variable {Λ : Nat → Nat → (Nat → Int32) → Int32} {Λn : Nat → Int32} {σ : Cs} {τ : Mm}
theorem mask_s (x y : Int32) {d : Nat} (hd : d < 31) : hasB (x &&& (y ^^^ -1)) (nI d) = (hasB x (nI d) && !hasB y (nI d)) := by
  rw [hasB_bt _ hd, hasB_bt _ hd, hasB_bt _ hd, b_and, b_xor, b_m1 d (by omega), Bool.xor_true]
theorem X1_owesBy_s (h : WI (cw σ 0)) (a b but : Int32) : X1_owesBy σ a b but = some (owV (cw σ 0) a b but) := by
  obtain ⟨e, hD⟩ := h.D
  unfold X1_owesBy
  rw [X2_of_s h, obs, X2_valid_s h, obs, X2_paidOnes_s h, obs, obs]
  refine ob1 (loop_sum (owT (cw σ 0) a b but) (nD (cw σ 0)) (FU8 hD) (fun i acc hi => ?_) (fun acc => ?_)) rfl
  · have ne := h.2 i hi
    have z : ∀ x : Int32, x - 0 = x := Int32.sub_zero
    unfold X1_owesBy_L33 X1_owesBy_J33_121 X1_owesBy_J33_122 owT
    simp only []
    rw [if_neg (by rw [e]; exact nI_ge hi (by omega)), ldN (by omega) (by decide), ldN (by omega) (by decide), has_s, ldN (by omega) (by decide), mask_s _ _ (by omega)]
    unfold vaB paB
    rw [hasB_sBits (by omega) _ hi, hasB_sBits (by omega) _ hi]
    simp only [obs, b01_0, nI_1]
    by_cases c1 : valB (cw σ 0) i (stB (cw σ 0) 1) = false
    · rw [if_pos (by rw [c1]; rfl), if_pos c1, add0]
    · have c1' : valB (cw σ 0) i (stB (cw σ 0) 1) = true := by cases q : valB (cw σ 0) i (stB (cw σ 0) 1) <;> simp_all
      rw [if_neg c1, c1']
      rcases h.paid (show i < 8 by omega) with c2 | c2
      · rw [if_neg (by rw [c2]; decide), if_neg (show ¬ cw σ 0 15 i = 1 by rw [c2]; decide)]
        by_cases c3 : cw σ 0 17 i = but
        · rw [if_pos c3, if_pos c3, add0]
        rw [if_neg c3, if_neg c3]
        by_cases c4 : cw σ 0 18 i = but
        · rw [if_pos c4, if_pos c4, add0]
        rw [if_neg c4, if_neg c4]
        revert ne
        generalize cw σ 0 17 i = X
        generalize cw σ 0 18 i = Y
        intro ne
        by_cases c5 : X = a
        · by_cases c6 : Y = b
          · have c56 : X = a ∧ Y = b := ⟨c5, c6⟩
            have c7 : ¬ X = b := fun q => ne (q.trans c6.symm)
            rw [if_pos c5, if_pos c6, if_pos c56, if_neg c7, z]
          · have c56 : ¬ (X = a ∧ Y = b) := fun q => c6 q.2
            have c8 : ¬ Y = a := fun q => ne (c5.trans q.symm)
            have c78 : ¬ (X = b ∧ Y = a) := fun q => c8 q.2
            rw [if_pos c5, if_neg c6, if_neg c56, if_neg c78, add0]
            by_cases c7 : X = b
            · rw [if_pos c7, if_neg c8, z]
            · rw [if_neg c7, z]
        · have c56 : ¬ (X = a ∧ Y = b) := fun q => c5 q.1
          rw [if_neg c5, if_neg c56, add0]
          by_cases c7 : X = b
          · by_cases c8 : Y = a
            · have c78 : X = b ∧ Y = a := ⟨c7, c8⟩
              rw [if_pos c7, if_pos c8, if_pos c78, Int32.sub_eq_add_neg]
            · have c78 : ¬ (X = b ∧ Y = a) := fun q => c8 q.2
              rw [if_pos c7, if_neg c8, if_neg c78, z, add0]
          · have c78 : ¬ (X = b ∧ Y = a) := fun q => c7 q.1
            rw [if_neg c7, if_neg c78, z, add0]
      · rw [if_pos (by rw [c2]; decide), if_pos c2, add0]
  · unfold X1_owesBy_L33
    rw [if_pos (by rw [e]; exact nI_le (Nat.le_refl _) (by omega))]
theorem T_owesBy {w : Mm} (h : WI w) (hr : WR w (τ 0)) (a b but : Int32) : X7_owesBy τ a b but = some (m0 (owV w a b but)) := by
  obtain ⟨e, hD⟩ := h.D
  unfold X7_owesBy
  refine ob1 (loop_sum (owT w a b but) (nD w) (FU8 hD) (fun i acc hi => ?_) (fun acc => ?_)) (by rw [greater_s, obs]; rfl)
  · unfold X7_owesBy_L6 X7_owesBy_J6_97 owT
    simp only []
    rw [if_neg (by rw [T_n5 hr h]; exact nI_ge hi (by omega)), T_isValidNow hr h (by omega), T_of11 hr (by omega), T_of1 hr (by omega), T_of2 hr (by omega), T_of3 hr (by omega)]
    simp only [obs, b01_0, nI_1]
    by_cases c1 : valB w i (stB w 1) = false
    · rw [if_pos c1, if_pos c1, add0]
    rw [if_neg c1, if_neg c1]
    by_cases c2 : w 15 i = 1
    · rw [if_pos c2, if_pos c2, add0]
    rw [if_neg c2, if_neg c2]
    by_cases c3 : w 17 i = but
    · rw [if_pos c3, if_pos c3, add0]
    rw [if_neg c3, if_neg c3]
    by_cases c4 : w 18 i = but
    · rw [if_pos c4, if_pos c4, add0]
    rw [if_neg c4, if_neg c4]
    generalize w 17 i = X
    generalize w 18 i = Y
    by_cases c5 : X = a
    · by_cases c6 : Y = b
      · have c56 : X = a ∧ Y = b := ⟨c5, c6⟩
        rw [if_pos c5, if_pos c6, if_pos c56]
      · have c56 : ¬ (X = a ∧ Y = b) := fun q => c6 q.2
        rw [if_pos c5, if_neg c6, if_neg c56]
        by_cases c7 : X = b
        · by_cases c8 : Y = a
          · have c78 : X = b ∧ Y = a := ⟨c7, c8⟩
            rw [if_pos c7, if_pos c8, if_pos c78]
          · have c78 : ¬ (X = b ∧ Y = a) := fun q => c8 q.2
            rw [if_pos c7, if_neg c8, if_neg c78]
        · have c78 : ¬ (X = b ∧ Y = a) := fun q => c7 q.1
          rw [if_neg c7, if_neg c78]
    · have c56 : ¬ (X = a ∧ Y = b) := fun q => c5 q.1
      rw [if_neg c5, if_neg c56]
      by_cases c7 : X = b
      · by_cases c8 : Y = a
        · have c78 : X = b ∧ Y = a := ⟨c7, c8⟩
          rw [if_pos c7, if_pos c8, if_pos c78]
        · have c78 : ¬ (X = b ∧ Y = a) := fun q => c8 q.2
          rw [if_pos c7, if_neg c8, if_neg c78]
      · have c78 : ¬ (X = b ∧ Y = a) := fun q => c7 q.1
        rw [if_neg c7, if_neg c78]
  · unfold X7_owesBy_L6
    rw [if_pos (by rw [T_n5 hr h]; exact nI_le (Nat.le_refl _) (by omega))]
theorem X1_owesNow_s (h : WI (cw σ 0)) (a b : Int32) : X1_owesNow σ a b = some (m0 (owV (cw σ 0) a b (-1))) := by
  unfold X1_owesNow
  rw [X1_owesBy_s h, obs]
  rfl
theorem S_owes (h : Sys Λ Λn σ τ) (a b : Int32) : CallX Λ Λn (cdx [0, 1]) (X1_owes σ a b) (X7_owes τ a b) := by
  unfold X1_owes X7_owes X7_owes_J17 X1_twoParties X7_owes_J31
  rw [X1_partyAt_s, T_isParty h.2.1, obs, obs]
  have no : CallX Λ Λn (cdx [0, 1]) (some (.inr (0, σ))) (some (0, mup τ 10 0 1)) := .er0 h rfl (by decide) rfl rfl
  by_cases c : inB a 0 (cw σ 0 0 1 - 1) = true
  · rw [if_pos c, c, if_neg b01T, T_isParty h.2.1, obs]
    simp only [Sum.elim_inl]
    rw [X1_partyAt_s, obs]
    by_cases c2 : inB b 0 (cw σ 0 0 1 - 1) = true
    · rw [if_pos c2, c2, if_neg b01T]
      simp only [Sum.elim_inl]
      by_cases c3 : a = b
      · rw [if_pos c3, if_pos c3, show X1_demand 0 = some (some 1) from rfl, obs, Option.elim_some, obs, obs, if_neg (t01 (by decide))]
        simp only [Sum.elim_inr]
        exact .er0 h rfl (by decide) rfl rfl
      · rw [if_neg c3, if_neg c3, show X1_demand 1 = some none from rfl, obs, Option.elim_none, obs, obs, if_pos t00, T_owesBy h.1 (h.wr0 0), obs]
        simp only [Sum.elim_inl]
        rw [X1_owesNow_s h.1, obs]
        exact .ok0 h rfl rfl
    · rw [if_neg c2, nBf c2, if_pos b01F, obs, if_neg (t01 (by decide))]
      simp only [Sum.elim_inr, obs]
      exact no
  · rw [if_neg c, nBf c, if_pos b01F, obs, if_neg (t01 (by decide))]
    simp only [Sum.elim_inr, obs]
    exact no
theorem X1_clearedBut_s (h : WI (cw σ 0)) (but : Int32) : X1_clearedBut σ but = some (clV (cw σ 0) but) := by
  obtain ⟨e, hP⟩ := h.P
  unfold X1_clearedBut
  refine ob1 (loop_sum (fun a => m0 (sumI (nP (cw σ 0)) (fun b => if nI b = nI a then 0 else owV (cw σ 0) (nI a) (nI b) but))) (nP (cw σ 0)) (FU8 (by omega)) (fun i acc hi => ?_) (fun acc => ?_)) rfl
  · unfold X1_clearedBut_L4
    simp only []
    rw [if_neg (by rw [e]; exact nI_ge hi (by omega)), loop_sum (fun b => if nI b = nI i then 0 else owV (cw σ 0) (nI i) (nI b) but) (nP (cw σ 0)) (FU8 (by omega)) (fun j acc2 hj => ?_) (fun acc2 => ?_), obs, obs, nI_1, obs]
    · rfl
    · unfold X1_clearedBut_L21
      simp only []
      rw [if_neg (by rw [e]; exact nI_ge hj (by omega)), X1_owesBy_s h, nI_1]
      simp only [obs]
      by_cases c : nI j = nI i
      · rw [if_pos c, if_pos c]
      · rw [if_neg c, if_neg c]
    · unfold X1_clearedBut_L21
      rw [if_pos (by rw [e]; exact nI_le (Nat.le_refl _) (by omega))]
  · unfold X1_clearedBut_L4
    rw [if_pos (by rw [e]; exact nI_le (Nat.le_refl _) (by omega))]
theorem T_clearedBy {w : Mm} (h : WI w) (hr : WR w (τ 0)) (but : Int32) : X7_clearedBy τ but = some (clV w but) := by
  obtain ⟨e, hP⟩ := h.P
  have e3 : τ 0 3 = nI (nP w) := (hr 0 1 (by decide)).symm.trans e
  unfold X7_clearedBy
  refine ob1 (loop_sum (fun a => m0 (sumI (nP w) (fun b => if nI b = nI a then 0 else owV w (nI a) (nI b) but))) (nP w) (FU8 (by omega)) (fun i acc hi => ?_) (fun acc => ?_)) rfl
  · unfold X7_clearedBy_L4
    simp only []
    rw [if_neg (by rw [e3]; exact nI_ge hi (by omega)), loop_sum (fun b => if nI b = nI i then 0 else owV w (nI i) (nI b) but) (nP w) (FU8 (by omega)) (fun j acc2 hj => ?_) (fun acc2 => ?_), obs, greater_s, obs, obs, nI_1, obs]
    · rfl
    · unfold X7_clearedBy_L20
      simp only []
      rw [if_neg (by rw [e3]; exact nI_ge hj (by omega)), T_owesBy h hr, T_owesBy h hr, nI_1, owV_neg h (a := nI i) (b := nI j)]
      simp only [obs]
      rw [m0_sub (owV_bI h) (by decide)]
      by_cases c : nI j = nI i
      · rw [if_pos c, if_pos c]
      · rw [if_neg c, if_neg c]
    · unfold X7_clearedBy_L20
      rw [if_pos (by rw [e3]; exact nI_le (Nat.le_refl _) (by omega))]
  · unfold X7_clearedBy_L4
    rw [if_pos (by rw [e3]; exact nI_le (Nat.le_refl _) (by omega))]
theorem S_cleared (h : Sys Λ Λn σ τ) : CallR Λ Λn σ (X1_cleared σ) (X7_cleared τ) := by
  refine ⟨clV (cw σ 0) (-1), mup τ 10 0 0, ?_, ?_, h.t0 0⟩
  · unfold X1_cleared
    rw [X1_clearedBut_s h.1, obs]
  · unfold X7_cleared
    rw [obs, T_clearedBy h.1 (h.wr0 0), obs]
theorem S_pivot (h : Sys Λ Λn σ τ) : CallR Λ Λn σ (X1_pivot σ) (X7_pivot τ) := by
  have w0 := h.wr0 0
  obtain ⟨e, hP⟩ := h.1.P
  unfold X1_pivot X7_pivot
  have key := loop_rel (f := X1_pivot_L8 σ) (g := X7_pivot_L9 (mup τ 10 0 0)) (fun i (s : Int32 × Int32 × Int32) (t : Int32 × Int32) => s.1 = t.1 ∧ s.2.2 = nI i ∧ t.2 = nI i ∧ ((t.1 = -1 ∧ s.2.1 = 100000000) ∨ ∃ k, k < nP (cw σ 0) ∧ t.1 = nI k ∧ s.2.1 = clV (cw σ 0) (nI k))) (fun x y => x = y) (nP (cw σ 0)) (FU8 (by omega)) (fun i s t hi hr => ?_) (s0 := (-1, 100000000, 0)) (t0 := (-1, 0)) ⟨rfl, rfl, rfl, Or.inl ⟨rfl, rfl⟩⟩
  · obtain ⟨x, y, f1, f2, q⟩ := key
    rw [f1, obs, obs, f2, obs]
    exact ⟨_, _, rfl, by rw [q], h.t0 0⟩
  · obtain ⟨s1, s2, s3⟩ := s
    obtain ⟨t1, t2⟩ := t
    obtain ⟨r1, r2, r3, r4⟩ := hr
    simp only at r1 r2 r3 r4
    subst r1 r2 r3
    unfold X1_pivot_L8 X7_pivot_L9
    simp only []
    rw [show mup τ 10 0 0 0 3 = nI (nP (cw σ 0)) from (w0 0 1 (by decide)).symm.trans e, e]
    rcases Nat.lt_or_ge i (nP (cw σ 0)) with hlt | hge
    · rw [if_neg (nI_ge hlt (by omega)), if_neg (nI_ge hlt (by omega)), X1_clearedBut_s h.1, T_clearedBy h.1 w0, T_clearedBy h.1 w0, nI_1]
      simp only [obs]
      rcases r4 with ⟨rfl, rfl⟩ | ⟨k, hk, rfl, rfl⟩
      · have hb := clV_bI h.1 (but := nI i)
        rw [if_pos (show clV (cw σ 0) (nI i) < 100000000 from by
          rw [Int32.lt_iff_toInt_lt, show (100000000 : Int32).toInt = 100000000 from rfl]
          have := hb.2
          omega), if_pos rfl]
        exact Or.inl ⟨_, _, rfl, rfl, hlt, rfl, rfl, rfl, Or.inr ⟨i, hlt, rfl, rfl⟩⟩
      · rw [if_neg (nI_nm (by omega))]
        by_cases c : clV (cw σ 0) (nI i) < clV (cw σ 0) (nI k)
        · rw [if_pos c, if_neg (Int32.not_le.mpr c)]
          exact Or.inl ⟨_, _, rfl, rfl, hlt, rfl, rfl, rfl, Or.inr ⟨i, hlt, rfl, rfl⟩⟩
        · rw [if_neg c, if_pos (Int32.not_lt.mp c)]
          exact Or.inl ⟨_, _, rfl, rfl, hlt, rfl, rfl, rfl, Or.inr ⟨k, hk, rfl, rfl⟩⟩
    · have : i = nP (cw σ 0) := by omega
      subst this
      rw [if_pos (nI_le (Nat.le_refl _) (by omega)), if_pos (nI_le (Nat.le_refl _) (by omega))]
      exact Or.inr ⟨_, _, rfl, rfl, rfl⟩
end AJ
