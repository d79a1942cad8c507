/-! PURE: buyers -/
def mbB (w : Mm) (pr : Nat → Int32) (d p s : Nat) : Bool := decide (w 26 d = 0) && (!hasB (nI s) (nI p) && (!decide (w 17 d = nI p) && (!decide (w 18 d = nI p) && !decide (w 10 p < pr d))))
def bst (w : Mm) (pr : Nat → Int32) (d : Nat) (f : Nat → Int32) (s : Nat) : Nat → Int32
  | 0 => f s
  | p + 1 => if mbB w pr d p s = true ∧ bst w pr d f s p < pr d + f (s ||| 2 ^ p) then pr d + f (s ||| 2 ^ p) else bst w pr d f s p
def tbV (w : Mm) (pr : Nat → Int32) : Nat → Nat → Int32
  | 0 => fun _ => 0
  | k + 1 => fun s => bst w pr (nD w - 1 - k) (tbV w pr k) s (nP w)
theorem bst_le {w : Mm} {pr : Nat → Int32} {d : Nat} {f : Nat → Int32} {s : Nat} (h : (0 : Int32) ≤ f s) : ∀ p, (0 : Int32) ≤ bst w pr d f s p := by
  intro p
  induction p with
  | zero => exact h
  | succ p ih =>
    show (0 : Int32) ≤ (if _ then _ else _)
    by_cases c : mbB w pr d p s = true ∧ bst w pr d f s p < pr d + f (s ||| 2 ^ p)
    · rw [if_pos c]
      exact Int32.le_of_lt (Int32.lt_of_le_of_lt ih c.2)
    · rw [if_neg c]
      exact ih
theorem tbV_le {w : Mm} {pr : Nat → Int32} : ∀ k s, (0 : Int32) ≤ tbV w pr k s := by
  intro k
  induction k with
  | zero => exact fun _ => by show (0 : Int32) ≤ 0; decide
  | succ k ih => exact fun s => bst_le (ih s) _
theorem bst_ex {w : Mm} {pr : Nat → Int32} {d : Nat} {f : Nat → Int32} {s : Nat} : ∀ p, bst w pr d f s p = f s ∨ ∃ q, q < p ∧ mbB w pr d q s = true ∧ bst w pr d f s p = pr d + f (s ||| 2 ^ q) := by
  intro p
  induction p with
  | zero => exact Or.inl rfl
  | succ p ih =>
    have e : bst w pr d f s (p + 1) = if mbB w pr d p s = true ∧ bst w pr d f s p < pr d + f (s ||| 2 ^ p) then pr d + f (s ||| 2 ^ p) else bst w pr d f s p := rfl
    by_cases c : mbB w pr d p s = true ∧ bst w pr d f s p < pr d + f (s ||| 2 ^ p)
    · rw [if_pos c] at e
      exact Or.inr ⟨p, by omega, c.1, e⟩
    · rw [if_neg c] at e
      rcases ih with h | ⟨q, h1, h2, h3⟩
      · exact Or.inl (e.trans h)
      · exact Or.inr ⟨q, by omega, h2, e.trans h3⟩
theorem or_set : ∀ s, s < 64 → ∀ p, p < 6 → nI s ||| ((1 : Int32) <<< (nI p &&& 31)) = nI (s ||| 2 ^ p) ∧ s ||| 2 ^ p < 64 := by decide +kernel
theorem shl6 : ∀ d, d < 10 → nI d <<< ((6 : Int32) &&& 31) = nI (64 * d) := by decide +kernel
/-- rows of the table from the end -/
def TbO (w : Mm) (pr g : Nat → Int32) (k : Nat) : Prop := ∀ j s, j < k → s < 64 → g (64 * (nD w - j) + s) = tbV w pr j s
section AV
variable {Λ : Nat → Nat → (Nat → Int32) → Int32} {Λn : Nat → Int32} {σ σ' : Cs} {τ τ' : Mm}
theorem Sys.co78 (h : Sys Λ Λn σ τ) (hw : cw σ' = cw σ) (hl : cl σ' = cl σ) (hc : ∀ r, r ≠ 7 → r ≠ 8 → co σ' r = co σ r) (ht : ∀ r, r ≠ 8 → r ≠ 9 → τ' r = τ r) : Sys Λ Λn σ' τ' := by
  have e10 := ht 10 (by decide) (by decide)
  have e0 := ht 0 (by decide) (by decide)
  have e1 := ht 1 (by decide) (by decide)
  have e3 := ht 3 (by decide) (by decide)
  have e4 := ht 4 (by decide) (by decide)
  have c0 := hc 0 (by decide) (by decide)
  have c1 := hc 1 (by decide) (by decide)
  have c2 := hc 2 (by decide) (by decide)
  have c9 := hc 9 (by decide) (by decide)
  unfold Sys Img Und Tap
  rw [hw, hl, e10, e0, e1, e3, e4, c0, c1, c2, c9, imM_e e1 (fun i _ => by rw [e0])]
  exact h
theorem soldAt_s {d s : Nat} (hd : d < 10) : X1_soldAt (nI d) (nI s) = some (nI (64 * d + s)) := by
  unfold X1_soldAt
  rw [shl6 d hd, nI_add]
theorem soldBy_m (h : WI (cw σ 0)) {d s : Nat} (hd : d < nD (cw σ 0)) (hs : s < 64) : X1_soldBy σ (nI d) (nI s) (-1) = some (co σ 8 (64 * (d + 1) + s)) := by
  have hD := h.D.2
  unfold X1_soldBy
  rw [if_pos rfl, nI_1, soldAt_s (by omega), obs, ldN (by omega) (by decide), obs]
theorem soldBy_p (h : WI (cw σ 0)) {d s p : Nat} (hd : d < nD (cw σ 0)) (hs : s < 64) (hp : p < nP (cw σ 0)) : X1_soldBy σ (nI d) (nI s) (nI p) = some (if mbB (cw σ 0) (co σ 7) d p s = true then co σ 7 d + co σ 8 (64 * (d + 1) + (s ||| 2 ^ p)) else -1) := by
  have hD := h.D.2
  have hP := h.P.2
  obtain ⟨o1, o2⟩ := or_set s hs p (by omega)
  have j0 : X1_soldBy_J86 σ (nI d) (nI s) (nI p) = some (-1) := rfl
  unfold X1_soldBy mbB
  rw [if_neg (nI_nm (by omega)), ldN (by omega) (by decide), obs, has_s, obs, ldN (by omega) (by decide), obs, ldN (by omega) (by decide), obs, ldN (by omega) (by decide), obs, ldN (by omega) (by decide), obs, j0]
  by_cases c1 : cw σ 0 26 d = 0
  · rw [if_pos c1, decide_eq_true c1, Bool.true_and]
    by_cases c2 : hasB (nI s) (nI p) = true
    · rw [c2, if_neg b01T]
      rfl
    · rw [nBf c2, if_pos b01F, Bool.not_false, Bool.true_and]
      by_cases c3 : cw σ 0 17 d = nI p
      · rw [if_pos c3.symm, decide_eq_true c3]
        rfl
      · rw [if_neg (fun q => c3 q.symm), decide_eq_false c3, Bool.not_false, Bool.true_and]
        by_cases c4 : cw σ 0 18 d = nI p
        · rw [if_pos c4.symm, decide_eq_true c4]
          rfl
        · rw [if_neg (fun q => c4 q.symm), decide_eq_false c4, Bool.not_false, Bool.true_and]
          by_cases c5 : cw σ 0 10 p < co σ 7 d
          · rw [if_pos c5, decide_eq_true c5]
            rfl
          · rw [if_neg c5, decide_eq_false c5]
            unfold X1_soldBy_J87
            rw [if_neg (by decide), ldN (by omega) (by decide), obs, o1, nI_1, soldAt_s (by omega), obs, ldN (by omega) (by decide), obs]
            rfl
  · rw [if_neg c1, decide_eq_false c1]
    rfl
theorem T_mayBuy {w : Mm} (h : WI w) (hr : WR w (τ 0)) {d s p : Nat} (hd : d < nD w) (hp : p < nP w) : X7_mayBuy τ (nI d) (nI p) (nI s) = some (b01 (mbB w (τ 9) d p s)) := by
  have hD := h.D.2
  have hP := h.P.2
  unfold X7_mayBuy mbB
  rw [T_of10 hr (by omega), obs, isOf_s, obs, T_of1 hr (by omega), obs, T_of2 hr (by omega), obs, T_coin hr (by omega), obs, ldN (by omega) (by decide), obs]
  by_cases c1 : w 26 d = 0
  · rw [if_pos c1, decide_eq_true c1, Bool.true_and]
    by_cases c2 : hasB (nI s) (nI p) = true
    · rw [c2, if_neg b01T]
      rfl
    · rw [nBf c2, if_pos b01F, Bool.not_false, Bool.true_and]
      by_cases c3 : w 17 d = nI p
      · rw [if_pos c3, decide_eq_true c3]
        rfl
      · rw [if_neg c3, decide_eq_false c3, Bool.not_false, Bool.true_and]
        by_cases c4 : w 18 d = nI p
        · rw [if_pos c4, decide_eq_true c4]
          rfl
        · rw [if_neg c4, decide_eq_false c4, Bool.not_false, Bool.true_and]
          by_cases c5 : w 10 p < τ 9 d
          · rw [if_pos c5, decide_eq_true c5]
            rfl
          · rw [if_neg c5, decide_eq_false c5]
            rfl
  · rw [if_neg c1, decide_eq_false c1]
    rfl
/-- prices on both sides -/
theorem S_prices (h : Sys Λ Λn σ τ) : ∃ σ' τ', loopO (X1_laysSales_L2 Λ) FU (σ, 0) = some σ' ∧ loopO (X7_sales_L2) FU (τ, 0) = some τ' ∧ Sys Λ Λn σ' τ' ∧ cw σ' 0 = cw σ 0 ∧ τ' 10 0 = τ 10 0 ∧ ∀ d, d < nD (cw σ 0) → co σ' 7 d = τ' 9 d := by
  obtain ⟨e, hD⟩ := h.1.D
  refine loop_rel (f := X1_laysSales_L2 Λ) (g := X7_sales_L2) (fun i (s : Cs × Int32) (t : Mm × Int32) => s.2 = nI i ∧ t.2 = nI i ∧ Sys Λ Λn s.1 t.1 ∧ cw s.1 0 = cw σ 0 ∧ t.1 10 0 = τ 10 0 ∧ ∀ d, d < i → co s.1 7 d = t.1 9 d) (fun x y => Sys Λ Λn x y ∧ cw x 0 = cw σ 0 ∧ y 10 0 = τ 10 0 ∧ ∀ d, d < nD (cw σ 0) → co x 7 d = y 9 d) (nD (cw σ 0)) (FU8 hD) (fun i s t hi hr => ?_) (s0 := (σ, 0)) (t0 := (τ, 0)) ⟨rfl, rfl, h, rfl, rfl, fun d hd => absurd hd (by omega)⟩
  obtain ⟨s1, s2⟩ := s
  obtain ⟨t1, t2⟩ := t
  obtain ⟨r1, r2, r3, r4, r5, r6⟩ := hr
  simp only at r1 r2 r3 r4 r5 r6
  subst r1 r2
  unfold X1_laysSales_L2 X7_sales_L2
  simp only []
  rw [T_n5 r3.2.1 r3.1, r4, e]
  rcases Nat.lt_or_ge i (nD (cw σ 0)) with hlt | hge
  · obtain ⟨v, σ1, τ1, e1, e2, sc⟩ := S_price r3.wo r3.2.2.2.2.2.2.2.1 (d := i) (by rw [r4]; exact hlt)
    have r3' := r3.sc sc.1 sc.2.1
    rw [if_neg (nI_ge hlt (by omega)), if_neg (nI_ge hlt (by omega)), e1, obs, e2, obs, stofN (by omega) (by decide), obs, obs, stoN (by omega) (by decide), obs, nI_1, obs, obs]
    refine Or.inl ⟨_, _, rfl, rfl, hlt, rfl, rfl, r3'.co78 rfl rfl (fun r a b => by rw [co_cou, mset_r a]) (fun r a b => mup_r b), sc.cw0.trans r4, ?_, fun d hd => ?_⟩
    · show mup τ1 9 i v 10 0 = _
      rw [mup_r (by decide), sc.2.2, r5]
    · show co (cou σ1 (mset (co σ1) 7 (upd (co σ1 7) i v))) 7 d = mup τ1 9 i v 9 d
      rw [co_cou, mset_e]
      by_cases q : d = i
      · subst q
        rw [mup_s]
        exact if_pos rfl
      · rw [mup_j q, sc.2.1.2.2.2.2.2.2.1, show upd (co σ1 7) i v d = co σ1 7 d from if_neg q, sc.1.2.2.2.2.2.2.2.2.1]
        exact r6 d (by omega)
  · have : i = nD (cw σ 0) := by omega
    subst this
    rw [if_pos (nI_le (Nat.le_refl _) (by omega)), if_pos (nI_le (Nat.le_refl _) (by omega))]
    exact Or.inr ⟨_, _, rfl, rfl, r3, r4, r5, r6⟩
end AV
