/-! PURE: buyers, the tables and who buys -/
def row8 (σ : Cs) (g : Nat → Int32) : Cs := cou σ (mset (co σ) 8 g)
theorem TbO.put {w : Mm} {pr g : Nat → Int32} {k s : Nat} {x : Int32} (h : TbO w pr g k) (hk : k ≤ nD w) (hs : s < 64) : TbO w pr (upd g (64 * (nD w - k) + s) x) k := by
  intro j s' hj hs'
  rw [show upd g (64 * (nD w - k) + s) x (64 * (nD w - j) + s') = g (64 * (nD w - j) + s') from if_neg (by omega)]
  exact h j s' hj hs'
section AW
variable {Λ : Nat → Nat → (Nat → Int32) → Int32} {Λn : Nat → Int32} {σ σ' : Cs} {τ τ' : Mm}
theorem row8_c {g : Nat → Int32} : co (row8 σ g) 8 = g ∧ co (row8 σ g) 7 = co σ 7 ∧ cw (row8 σ g) = cw σ := by
  unfold row8
  rw [co_cou, mset_e, mset_r (show (7 : Nat) ≠ 8 by decide)]
  exact ⟨rfl, rfl, rfl⟩
theorem sold55 (h : WI (cw σ 0)) {g : Nat → Int32} {k s : Nat} (hk : k ≤ nD (cw σ 0)) (hs : s < 64) (t : TbO (cw σ 0) (co σ 7) g k) : loopO (X1_laysSales_L55 Λ (row8 σ g) (nI (nD (cw σ 0) - k)) (nI s)) FU (0, -1) = some (tbV (cw σ 0) (co σ 7) k s) := by
  obtain ⟨e, hD⟩ := h.D
  obtain ⟨eP, hP⟩ := h.P
  obtain ⟨c8, c7, cc⟩ := row8_c (σ := σ) (g := g)
  have nm : ¬ nI (nP (cw σ 0)) ≤ (-1 : Int32) := (by decide : ∀ n, n ≤ 6 → ¬ nI n ≤ (-1 : Int32)) _ hP
  cases k with
  | zero =>
    refine loopO_run (step := X1_laysSales_L55 Λ (row8 σ g) (nI (nD (cw σ 0) - 0)) (nI s)) (fun _ => (0, -1)) 0 (by decide) (fun i hi => absurd hi (by omega)) ?_
    unfold X1_laysSales_L55
    simp only []
    rw [cc, eP, if_neg nm, e, Nat.sub_zero, if_pos (nI_le (Nat.le_refl _) (by omega))]
    rfl
  | succ k =>
    have hd : nD (cw σ 0) - (k + 1) < nD (cw σ 0) := by omega
    have hd1 : nD (cw σ 0) - (k + 1) + 1 = nD (cw σ 0) - k := by omega
    have ed : nD (cw σ 0) - 1 - k = nD (cw σ 0) - (k + 1) := by omega
    have eT : tbV (cw σ 0) (co σ 7) (k + 1) s = bst (cw σ 0) (co σ 7) (nD (cw σ 0) - (k + 1)) (tbV (cw σ 0) (co σ 7) k) s (nP (cw σ 0)) := by
      show bst _ _ (nD (cw σ 0) - 1 - k) _ s _ = _
      rw [ed]
    rw [eT]
    generalize hd0 : nD (cw σ 0) - (k + 1) = d at hd hd1
    have f0 := tbV_le (w := cw σ 0) (pr := co σ 7) k s
    have hN : ¬ nI (nD (cw σ 0)) ≤ nI d := nI_ge hd (by omega)
    have hW : WI (cw (row8 σ g) 0) := h
    have hdW : d < nD (cw (row8 σ g) 0) := hd
    have rw1 : ∀ s', s' < 64 → g (64 * (d + 1) + s') = tbV (cw σ 0) (co σ 7) k s' := fun s' hs' => by rw [hd1]; exact t k s' (by omega) hs'
    have key : Rn (loopO (X1_laysSales_L55 Λ (row8 σ g) (nI d) (nI s)) FU (0, -1)) (fun x => x = bst (cw σ 0) (co σ 7) d (tbV (cw σ 0) (co σ 7) k) s (nP (cw σ 0))) := by
      refine loopO_inv (fun i (x : Int32 × Int32) => (i = 0 ∧ x = (0, -1)) ∨ ∃ p, i = p + 1 ∧ x = (bst (cw σ 0) (co σ 7) d (tbV (cw σ 0) (co σ 7) k) s p, nI p)) _ (nP (cw σ 0) + 1) (by unfold FU; omega) (fun i x hi hx => ?_) (Or.inl ⟨rfl, rfl⟩)
      rcases hx with ⟨rfl, rfl⟩ | ⟨p, rfl, rfl⟩
      · have sm := soldBy_m hW hdW hs
        rw [c8, rw1 s hs] at sm
        unfold X1_laysSales_L55
        rw [cc, eP, if_neg nm, e, if_neg hN, sm, obs, obs, show (-1 : Int32) + 1 = nI 0 from by decide, obs]
        refine Rn.mk (Or.inl ⟨_, rfl, by omega, Or.inr ⟨0, rfl, ?_⟩⟩)
        show (if 0 < tbV (cw σ 0) (co σ 7) k s then tbV (cw σ 0) (co σ 7) k s else 0, nI 0) = (tbV (cw σ 0) (co σ 7) k s, nI 0)
        by_cases c : (0 : Int32) < tbV (cw σ 0) (co σ 7) k s
        · rw [if_pos c]
        · rw [if_neg c, Int32.le_antisymm (Int32.not_lt.mp c) f0]
      · unfold X1_laysSales_L55
        simp only []
        rw [cc, eP, e]
        rcases Nat.lt_or_ge p (nP (cw σ 0)) with hlt | hge
        · have sp := soldBy_p hW hdW hs (p := p) hlt
          rw [c8, c7, cc, rw1 _ (or_set s hs p (by omega)).2] at sp
          rw [if_neg (nI_ge hlt (by omega)), if_neg hN, sp, obs, nI_1, obs, obs]
          have eb : bst (cw σ 0) (co σ 7) d (tbV (cw σ 0) (co σ 7) k) s (p + 1) = if mbB (cw σ 0) (co σ 7) d p s = true ∧ bst (cw σ 0) (co σ 7) d (tbV (cw σ 0) (co σ 7) k) s p < co σ 7 d + tbV (cw σ 0) (co σ 7) k (s ||| 2 ^ p) then co σ 7 d + tbV (cw σ 0) (co σ 7) k (s ||| 2 ^ p) else bst (cw σ 0) (co σ 7) d (tbV (cw σ 0) (co σ 7) k) s p := rfl
          have b0 := bst_le (w := cw σ 0) (pr := co σ 7) (d := d) (f := tbV (cw σ 0) (co σ 7) k) (s := s) f0 p
          refine Rn.mk (Or.inl ⟨_, rfl, by omega, Or.inr ⟨p + 1, rfl, ?_⟩⟩)
          rw [eb]
          by_cases c : mbB (cw σ 0) (co σ 7) d p s = true
          · rw [if_pos c]
            by_cases c2 : bst (cw σ 0) (co σ 7) d (tbV (cw σ 0) (co σ 7) k) s p < co σ 7 d + tbV (cw σ 0) (co σ 7) k (s ||| 2 ^ p)
            · rw [if_pos c2, if_pos ⟨c, c2⟩]
            · rw [if_neg c2, if_neg (fun q => c2 q.2)]
          · have b1 : ¬ bst (cw σ 0) (co σ 7) d (tbV (cw σ 0) (co σ 7) k) s p < -1 := Int32.not_lt.mpr (Int32.le_trans (by decide : (-1 : Int32) ≤ 0) b0)
            have c' : ¬ (mbB (cw σ 0) (co σ 7) d p s = true ∧ bst (cw σ 0) (co σ 7) d (tbV (cw σ 0) (co σ 7) k) s p < co σ 7 d + tbV (cw σ 0) (co σ 7) k (s ||| 2 ^ p)) := fun q => c q.1
            rw [if_neg c, if_neg b1, if_neg c']
        · have : p = nP (cw σ 0) := by omega
          subst this
          rw [if_pos (nI_le (Nat.le_refl _) (by omega))]
          exact Rn.mk (Or.inr ⟨_, rfl, rfl⟩)
    obtain ⟨x, e1, rfl⟩ := key
    exact e1
theorem sold44 (h : WI (cw σ 0)) {g : Nat → Int32} {k : Nat} (hk : k ≤ nD (cw σ 0)) (t : TbO (cw σ 0) (co σ 7) g k) : ∃ g', loopO (X1_laysSales_L44 Λ (nI (nD (cw σ 0) - k))) FU (row8 σ g, 0) = some (row8 σ g') ∧ TbO (cw σ 0) (co σ 7) g' (k + 1) := by
  have hD := h.D.2
  have key : Rn (loopO (X1_laysSales_L44 Λ (nI (nD (cw σ 0) - k))) FU (row8 σ g, 0)) (fun x => ∃ g', x = row8 σ g' ∧ TbO (cw σ 0) (co σ 7) g' (k + 1)) := by
    refine loopO_inv (fun s (x : Cs × Int32) => ∃ g', x = (row8 σ g', nI s) ∧ TbO (cw σ 0) (co σ 7) g' k ∧ ∀ s', s' < s → g' (64 * (nD (cw σ 0) - k) + s') = tbV (cw σ 0) (co σ 7) k s') _ 64 (by decide) (fun s x hi hx => ?_) ⟨g, rfl, t, fun s' hs' => absurd hs' (by omega)⟩
    obtain ⟨g', rfl, t1, t2⟩ := hx
    unfold X1_laysSales_L44
    simp only []
    by_cases c : s = 64
    · subst c
      rw [if_pos (by decide)]
      refine Rn.mk (Or.inr ⟨_, rfl, g', rfl, fun j s' hj hs' => ?_⟩)
      by_cases q : j = k
      · subst q; exact t2 s' hs'
      · exact t1 j s' (by omega) hs'
    · rw [if_neg (show ¬ (64 : Int32) ≤ nI s from nI_ge (b := 64) (by omega) (by decide)), sold55 h hk (by omega) t1, obs, soldAt_s (by omega), obs, row8_c.1, stofN (by omega) (by decide), obs, obs, nI_1, obs]
      have e8 : cou (row8 σ g') (mset (co (row8 σ g')) 8 (upd g' (64 * (nD (cw σ 0) - k) + s) (tbV (cw σ 0) (co σ 7) k s))) = row8 σ (upd g' (64 * (nD (cw σ 0) - k) + s) (tbV (cw σ 0) (co σ 7) k s)) := by
        show cou σ _ = cou σ _
        congr 1
        funext r
        by_cases q : r = 8
        · subst q; rw [mset_e, mset_e]
        · rw [mset_r q, mset_r q]
          exact mset_r (τ := co σ) q
      refine Rn.mk (Or.inl ⟨_, rfl, by omega, _, by rw [e8], t1.put hk (by omega), fun s' hs' => ?_⟩)
      by_cases q : s' = s
      · subst q
        exact if_pos rfl
      · rw [show upd g' (64 * (nD (cw σ 0) - k) + s) (tbV (cw σ 0) (co σ 7) k s) (64 * (nD (cw σ 0) - k) + s') = g' (64 * (nD (cw σ 0) - k) + s') from if_neg (by omega)]
        exact t2 s' (by omega)
  obtain ⟨x, e1, g', rfl, t'⟩ := key
  exact ⟨g', e1, t'⟩
theorem sold38 (h : WI (cw σ 0)) : ∃ g, loopO (X1_laysSales_L38 Λ) FU (σ, nI (nD (cw σ 0))) = some (row8 σ g) ∧ TbO (cw σ 0) (co σ 7) g (nD (cw σ 0) + 1) := by
  have hD := h.D.2
  have r0 : row8 σ (co σ 8) = σ := by
    obtain ⟨a, b, c⟩ := σ
    show (a, mset b 8 (b 8), c) = (a, b, c)
    congr 2
    funext r
    by_cases q : r = 8
    · subst q; rw [mset_e]
    · rw [mset_r q]
  have key : Rn (loopO (X1_laysSales_L38 Λ) FU (σ, nI (nD (cw σ 0)))) (fun x => ∃ g, x = row8 σ g ∧ TbO (cw σ 0) (co σ 7) g (nD (cw σ 0) + 1)) := by
    refine loopO_inv (fun k (x : Cs × Int32) => ∃ g, x = (row8 σ g, nI (nD (cw σ 0) + 1 - k) - 1) ∧ TbO (cw σ 0) (co σ 7) g k) _ (nD (cw σ 0) + 1) (by unfold FU; omega) (fun k x hi hx => ?_) ⟨co σ 8, by rw [r0, Nat.sub_zero, ← nI_1, Int32.add_sub_cancel], fun j s hj => absurd hj (by omega)⟩
    obtain ⟨g, rfl, t⟩ := hx
    unfold X1_laysSales_L38
    simp only []
    by_cases c : k = nD (cw σ 0) + 1
    · subst c
      rw [Nat.sub_self, if_pos (by decide)]
      exact Rn.mk (Or.inr ⟨_, rfl, g, rfl, t⟩)
    · have e1 : nD (cw σ 0) + 1 - k = (nD (cw σ 0) - k) + 1 := by omega
      obtain ⟨g', e2, t'⟩ := sold44 (Λ := Λ) h (k := k) (by omega) t
      rw [e1, ← nI_1, Int32.add_sub_cancel, if_neg (nI_pos (by omega)), e2, obs, obs]
      refine Rn.mk (Or.inl ⟨_, rfl, by omega, g', ?_, t'⟩)
      rw [show nD (cw σ 0) + 1 - (k + 1) = nD (cw σ 0) - k by omega, Int32.sub_eq_add_neg]
  obtain ⟨x, e1, g, rfl, t⟩ := key
  exact ⟨g, e1, t⟩
end AW
