/-! PURE: buyers, the reference's tables; the call -/
section AX
variable {Λ : Nat → Nat → (Nat → Int32) → Int32} {Λn : Nat → Int32} {σ σ' : Cs} {τ τ' : Mm} {w : Mm}
theorem T_sales31 (h : WI w) (hr : WR w (τ 0)) : ∃ g, loopO (X7_sales_L31) FU (τ, 0) = some (mset τ 8 g) ∧ TbO w (τ 9) g 1 := by
  have hD := h.D.2
  have r0 : mset τ 8 (τ 8) = τ := by
    funext r
    by_cases q : r = 8
    · subst q; rw [mset_e]
    · rw [mset_r q]
  have key : Rn (loopO (X7_sales_L31) FU (τ, 0)) (fun x => ∃ g, x = mset τ 8 g ∧ TbO w (τ 9) g 1) := by
    refine loopO_inv (fun s (x : Mm × Int32) => ∃ g, x = (mset τ 8 g, nI s) ∧ ∀ s', s' < s → g (64 * nD w + s') = 0) _ 64 (by decide) (fun s x hi hx => ?_) ⟨τ 8, by rw [r0]; rfl, fun s' hs' => absurd hs' (by omega)⟩
    obtain ⟨g, rfl, t⟩ := hx
    unfold X7_sales_L31
    simp only []
    by_cases c : s = 64
    · subst c
      rw [if_pos (by decide)]
      refine Rn.mk (Or.inr ⟨_, rfl, g, rfl, fun j s' hj hs' => ?_⟩)
      have : j = 0 := by omega
      subst this
      rw [Nat.sub_zero]
      exact t s' hs'
    · rw [if_neg (show ¬ (64 : Int32) ≤ nI s from nI_ge (b := 64) (by omega) (by decide)), mset_r (show (0 : Nat) ≠ 8 by decide), T_n5 hr h, show (64 : Int32) * nI (nD w) + nI s = nI (64 * nD w + s) from by rw [show (64 : Int32) = nI 64 from rfl, pk_mul, nI_add], stoN (by omega) (by decide), obs, nI_1, obs, mup_mset]
      refine Rn.mk (Or.inl ⟨_, rfl, by omega, _, rfl, fun s' hs' => ?_⟩)
      by_cases q : s' = s
      · subst q
        exact if_pos rfl
      · rw [show upd g (64 * nD w + s) 0 (64 * nD w + s') = g (64 * nD w + s') from if_neg (by omega)]
        exact t s' (by omega)
  obtain ⟨x, e1, g, rfl, t⟩ := key
  exact ⟨g, e1, t⟩
theorem T_sales98 (h : WI w) (hr : WR w (τ 0)) {g : Nat → Int32} {k s : Nat} (hk : k < nD w) (hs : s < 64) (t : TbO w (τ 9) g (k + 1)) : loopO (X7_sales_L98 (mset τ 8 g) (nI (nD w - (k + 1))) (nI s)) FU (tbV w (τ 9) k s, 0) = some (tbV w (τ 9) (k + 1) s) := by
  have hD := h.D.2
  have hP := h.P.2
  have ed : nD w - 1 - k = nD w - (k + 1) := by omega
  have eT : tbV w (τ 9) (k + 1) s = bst w (τ 9) (nD w - (k + 1)) (tbV w (τ 9) k) s (nP w) := by
    show bst _ _ (nD w - 1 - k) _ s _ = _
    rw [ed]
  rw [eT]
  have hd : nD w - (k + 1) < nD w := by omega
  have hd1 : nD w - (k + 1) + 1 = nD w - k := by omega
  generalize nD w - (k + 1) = d at hd hd1
  have r0 : WR w (mset τ 8 g 0) := by rw [mset_r (by decide)]; exact hr
  have e3 : mset τ 8 g 0 3 = nI (nP w) := (r0 0 1 (by decide)).symm.trans h.P.1
  have e9 : mset τ 8 g 9 = τ 9 := mset_r (by decide)
  have rw1 : ∀ s', s' < 64 → g (64 * (d + 1) + s') = tbV w (τ 9) k s' := fun s' hs' => by rw [hd1]; exact t k s' (by omega) hs'
  refine loopO_run (step := X7_sales_L98 (mset τ 8 g) (nI d) (nI s)) (fun p => (bst w (τ 9) d (tbV w (τ 9) k) s p, nI p)) (nP w) (FU8 (by omega)) (fun p hp => ?_) ?_
  · obtain ⟨o1, o2⟩ := or_set s hs p (by omega)
    have eb : bst w (τ 9) d (tbV w (τ 9) k) s (p + 1) = if mbB w (τ 9) d p s = true ∧ bst w (τ 9) d (tbV w (τ 9) k) s p < τ 9 d + tbV w (τ 9) k (s ||| 2 ^ p) then τ 9 d + tbV w (τ 9) k (s ||| 2 ^ p) else bst w (τ 9) d (tbV w (τ 9) k) s p := rfl
    unfold X7_sales_L98
    simp only []
    rw [e3, if_neg (nI_ge hp (by omega)), T_mayBuy h r0 hd hp, obs, e9, ldN (by omega) (by decide), obs, o1, nI_1, nI_1, show (64 : Int32) * nI (d + 1) + nI (s ||| 2 ^ p) = nI (64 * (d + 1) + (s ||| 2 ^ p)) from by rw [show (64 : Int32) = nI 64 from rfl, pk_mul, nI_add], mset_e, ldN (by omega) (by decide), rw1 _ o2]
    simp only [obs, greater_s]
    rw [eb]
    by_cases c : mbB w (τ 9) d p s = true
    · rw [c, if_neg b01T]
      by_cases c2 : bst w (τ 9) d (tbV w (τ 9) k) s p < τ 9 d + tbV w (τ 9) k (s ||| 2 ^ p)
      · rw [if_pos c2, if_pos ⟨rfl, c2⟩]
      · rw [if_neg c2, if_neg (fun q => c2 q.2)]
    · have c' : ¬ (mbB w (τ 9) d p s = true ∧ bst w (τ 9) d (tbV w (τ 9) k) s p < τ 9 d + tbV w (τ 9) k (s ||| 2 ^ p)) := fun q => c q.1
      rw [if_neg c', nBf c, if_pos b01F]
  · unfold X7_sales_L98
    rw [e3, if_pos (nI_le (Nat.le_refl _) (by omega))]
theorem T_sales75 (h : WI w) (hr : WR w (τ 0)) {g : Nat → Int32} {k : Nat} (hk : k < nD w) (t : TbO w (τ 9) g (k + 1)) : ∃ g', loopO (X7_sales_L75 (nI (nD w - (k + 1)))) FU (mset τ 8 g, 0) = some (mset τ 8 g') ∧ TbO w (τ 9) g' (k + 2) := by
  have hD := h.D.2
  have key : Rn (loopO (X7_sales_L75 (nI (nD w - (k + 1)))) FU (mset τ 8 g, 0)) (fun x => ∃ g', x = mset τ 8 g' ∧ TbO w (τ 9) g' (k + 2)) := by
    refine loopO_inv (fun s (x : Mm × Int32) => ∃ g', x = (mset τ 8 g', nI s) ∧ TbO w (τ 9) g' (k + 1) ∧ ∀ s', s' < s → g' (64 * (nD w - (k + 1)) + s') = tbV w (τ 9) (k + 1) s') _ 64 (by decide) (fun s x hi hx => ?_) ⟨g, rfl, t, fun s' hs' => absurd hs' (by omega)⟩
    obtain ⟨g', rfl, t1, t2⟩ := hx
    unfold X7_sales_L75
    simp only []
    by_cases c : s = 64
    · subst c
      rw [if_pos (by decide)]
      refine Rn.mk (Or.inr ⟨_, rfl, g', rfl, fun j s' hj hs' => ?_⟩)
      by_cases q : j = k + 1
      · subst q; exact t2 s' hs'
      · exact t1 j s' (by omega) hs'
    · have hd1 : nD w - (k + 1) + 1 = nD w - k := by omega
      rw [if_neg (show ¬ (64 : Int32) ≤ nI s from nI_ge (b := 64) (by omega) (by decide)), nI_1, hd1, show (64 : Int32) * nI (nD w - k) + nI s = nI (64 * (nD w - k) + s) from by rw [show (64 : Int32) = nI 64 from rfl, pk_mul, nI_add], mset_e, ldN (by omega) (by decide), obs, t1 k s (by omega) (by omega), T_sales98 h hr hk (by omega) t1, obs, show (64 : Int32) * nI (nD w - (k + 1)) + nI s = nI (64 * (nD w - (k + 1)) + s) from by rw [show (64 : Int32) = nI 64 from rfl, pk_mul, nI_add], stoN (by omega) (by decide), obs, nI_1, obs, mup_mset]
      refine Rn.mk (Or.inl ⟨_, rfl, by omega, _, rfl, t1.put (by omega) (by omega), fun s' hs' => ?_⟩)
      by_cases q : s' = s
      · subst q
        exact if_pos rfl
      · rw [show upd g' (64 * (nD w - (k + 1)) + s) (tbV w (τ 9) (k + 1) s) (64 * (nD w - (k + 1)) + s') = g' (64 * (nD w - (k + 1)) + s') from if_neg (by omega)]
        exact t2 s' (by omega)
  obtain ⟨x, e1, g', rfl, t'⟩ := key
  exact ⟨g', e1, t'⟩
theorem T_sales69 (h : WI w) (hr : WR w (τ 0)) {g : Nat → Int32} (t : TbO w (τ 9) g 1) : ∃ g', loopO (X7_sales_L69) FU (mset τ 8 g, nI (nD w) - 1) = some (mset τ 8 g') ∧ TbO w (τ 9) g' (nD w + 1) := by
  have hD := h.D.2
  have key : Rn (loopO (X7_sales_L69) FU (mset τ 8 g, nI (nD w) - 1)) (fun x => ∃ g', x = mset τ 8 g' ∧ TbO w (τ 9) g' (nD w + 1)) := by
    refine loopO_inv (fun k (x : Mm × Int32) => ∃ g, x = (mset τ 8 g, nI (nD w - k) - 1) ∧ TbO w (τ 9) g (k + 1)) _ (nD w) (FU8 hD) (fun k x hi hx => ?_) ⟨g, rfl, t⟩
    obtain ⟨g, rfl, t⟩ := hx
    unfold X7_sales_L69
    simp only []
    by_cases c : k = nD w
    · subst c
      rw [Nat.sub_self, if_pos (by decide)]
      exact Rn.mk (Or.inr ⟨_, rfl, g, rfl, t⟩)
    · have e1 : nD w - k = (nD w - (k + 1)) + 1 := by omega
      obtain ⟨g', e2, t'⟩ := T_sales75 h hr (k := k) (by omega) t
      rw [e1, ← nI_1, Int32.add_sub_cancel, if_neg (nI_pos (by omega)), e2, obs, obs]
      refine Rn.mk (Or.inl ⟨_, rfl, by omega, g', ?_, t'⟩)
      rw [Int32.sub_eq_add_neg]
  obtain ⟨x, e1, g', rfl, t'⟩ := key
  exact ⟨g', e1, t'⟩
/-- one who buys: the least of those by whom the most is had -/
def okB (w : Mm) (pr : Nat → Int32) (d : Nat) (f : Nat → Int32) (s q : Nat) : Prop := mbB w pr d q s = true ∧ pr d + f (s ||| 2 ^ q) = bst w pr d f s (nP w)
theorem sold41 (h : WI (cw σ 0)) {d s : Nat} (hd : d < nD (cw σ 0)) (hs : s < 64) {f : Nat → Int32} (f0 : (0 : Int32) ≤ f s) (r1 : ∀ s', s' < 64 → co σ 8 (64 * (d + 1) + s') = f s') (r2 : co σ 8 (64 * d + s) = bst (cw σ 0) (co σ 7) d f s (nP (cw σ 0))) {c1 : Int32} : Rn (loopO (X1_buyers_L41 Λ σ c1 (nI s) (nI d)) FU (-1)) (fun e => (e = -1 ∧ f s = bst (cw σ 0) (co σ 7) d f s (nP (cw σ 0))) ∨ ∃ q, q < nP (cw σ 0) ∧ e = nI q ∧ ¬ f s = bst (cw σ 0) (co σ 7) d f s (nP (cw σ 0)) ∧ okB (cw σ 0) (co σ 7) d f s q ∧ ∀ q', q' < q → ¬ okB (cw σ 0) (co σ 7) d f s q') := by
  have hD := h.D.2
  have hP := h.P.2
  have b0 := bst_le (w := cw σ 0) (pr := co σ 7) (d := d) (f := f) (s := s) f0 (nP (cw σ 0))
  refine loopO_inv (fun i (p : Int32) => (i = 0 ∧ p = -1) ∨ ∃ j, i = j + 1 ∧ p = nI j ∧ ¬ f s = bst (cw σ 0) (co σ 7) d f s (nP (cw σ 0)) ∧ ∀ q', q' < j → ¬ okB (cw σ 0) (co σ 7) d f s q') _ (nP (cw σ 0) + 1) (by unfold FU; omega) (fun i p hi hp => ?_) (Or.inl ⟨rfl, rfl⟩)
  unfold X1_buyers_L41
  rw [soldAt_s (by omega)]
  simp only [obs, ldN (n := 576) (show 64 * d + s < 576 by omega) (by decide), r2]
  rcases hp with ⟨rfl, rfl⟩ | ⟨j, rfl, rfl, h1, h2⟩
  · rw [soldBy_m h hd hs, obs, r1 s hs]
    by_cases c : f s = bst (cw σ 0) (co σ 7) d f s (nP (cw σ 0))
    · rw [if_pos c]
      exact Rn.mk (Or.inr ⟨_, rfl, Or.inl ⟨rfl, c⟩⟩)
    · rw [if_neg c]
      exact Rn.mk (Or.inl ⟨_, rfl, by omega, Or.inr ⟨0, rfl, by decide, c, fun q hq => absurd hq (by omega)⟩⟩)
  · rcases Nat.lt_or_ge j (nP (cw σ 0)) with hlt | hge
    · rw [soldBy_p h hd hs hlt, obs, r1 _ (or_set s hs j (by omega)).2]
      by_cases c : mbB (cw σ 0) (co σ 7) d j s = true
      · rw [if_pos c]
        by_cases c2 : co σ 7 d + f (s ||| 2 ^ j) = bst (cw σ 0) (co σ 7) d f s (nP (cw σ 0))
        · rw [if_pos c2]
          exact Rn.mk (Or.inr ⟨_, rfl, Or.inr ⟨j, hlt, rfl, h1, ⟨c, c2⟩, h2⟩⟩)
        · rw [if_neg c2, nI_1]
          refine Rn.mk (Or.inl ⟨_, rfl, by omega, Or.inr ⟨j + 1, rfl, rfl, h1, fun q hq => ?_⟩⟩)
          by_cases e : q = j
          · subst e; exact fun g => c2 g.2
          · exact h2 q (by omega)
      · have nb : ¬ (-1 : Int32) = bst (cw σ 0) (co σ 7) d f s (nP (cw σ 0)) := fun g => by
          rw [← g] at b0
          exact absurd b0 (by decide)
        rw [if_neg c, if_neg nb, nI_1]
        refine Rn.mk (Or.inl ⟨_, rfl, by omega, Or.inr ⟨j + 1, rfl, rfl, h1, fun q hq => ?_⟩⟩)
        by_cases e : q = j
        · subst e; exact fun g => c g.1
        · exact h2 q (by omega)
    · exfalso
      rcases bst_ex (w := cw σ 0) (pr := co σ 7) (d := d) (f := f) (s := s) (nP (cw σ 0)) with g | ⟨q, g1, g2, g3⟩
      · exact h1 g.symm
      · exact h2 q (by omega) ⟨g2, g3.symm⟩
theorem T_buyers104 (h : WI w) (hr : WR w (τ 0)) {d s : Nat} (hd : d < nD w) (hs : s < 64) {f : Nat → Int32} (r1 : ∀ s', s' < 64 → τ 8 (64 * (d + 1) + s') = f s') (r2 : τ 8 (64 * d + s) = bst w (τ 9) d f s (nP w)) {c1 : Int32} : Rn (loopO (X7_buyers_L104 τ c1 (nI s) (nI d)) FU (-1, nI (nP w) - 1)) (fun e => (e = -1 ∧ ∀ q, q < nP w → ¬ okB w (τ 9) d f s q) ∨ ∃ q, q < nP w ∧ e = nI q ∧ okB w (τ 9) d f s q ∧ ∀ q', q' < q → ¬ okB w (τ 9) d f s q') := by
  have hD := h.D.2
  have hP := h.P.2
  refine loopO_inv (fun i (x : Int32 × Int32) => x.2 = nI (nP w - i) - 1 ∧ i ≤ nP w ∧ ((x.1 = -1 ∧ ∀ q, nP w - i ≤ q → q < nP w → ¬ okB w (τ 9) d f s q) ∨ ∃ q, nP w - i ≤ q ∧ q < nP w ∧ x.1 = nI q ∧ okB w (τ 9) d f s q ∧ ∀ q', nP w - i ≤ q' → q' < q → ¬ okB w (τ 9) d f s q')) _ (nP w) (FU8 (by omega)) (fun i x hi hx => ?_) ⟨rfl, Nat.zero_le _, Or.inl ⟨rfl, fun q h1 h2 => absurd h1 (by omega)⟩⟩
  obtain ⟨fd, p⟩ := x
  obtain ⟨hp, hle, hf⟩ := hx
  simp only at hp hf
  subst hp
  unfold X7_buyers_L104
  simp only []
  by_cases c : i = nP w
  · subst c
    rw [Nat.sub_self, if_pos (by decide)]
    rw [Nat.sub_self] at hf
    refine Rn.mk (Or.inr ⟨_, rfl, ?_⟩)
    rcases hf with ⟨rfl, hf⟩ | ⟨q, -, h2, rfl, h4, h5⟩
    · exact Or.inl ⟨rfl, fun q hq => hf q (Nat.zero_le _) hq⟩
    · exact Or.inr ⟨q, h2, rfl, h4, fun q' hq' => h5 q' (Nat.zero_le _) hq'⟩
  · obtain ⟨m, hm⟩ : ∃ m, nP w - i = m + 1 := ⟨nP w - i - 1, by omega⟩
    have em : nP w - (i + 1) = m := by omega
    have hmP : m < nP w := by omega
    obtain ⟨o1, o2⟩ := or_set s hs m (by omega)
    have en : nI m + -1 = nI (nP w - (i + 1)) - 1 := by rw [em, Int32.sub_eq_add_neg]
    rw [hm, show nI (m + 1) - 1 = nI m from by rw [← nI_1, Int32.add_sub_cancel], if_neg (nI_pos (by omega)), T_mayBuy h hr hd hmP, obs, ldN (by omega) (by decide), obs, o1, nI_1, show (64 : Int32) * nI (d + 1) + nI (s ||| 2 ^ m) = nI (64 * (d + 1) + (s ||| 2 ^ m)) from by rw [show (64 : Int32) = nI 64 from rfl, pk_mul, nI_add], ldN (by omega) (by decide), obs, r1 _ o2, show (64 : Int32) * nI d + nI s = nI (64 * d + s) from by rw [show (64 : Int32) = nI 64 from rfl, pk_mul, nI_add], ldN (by omega) (by decide), r2, en]
    simp only [obs]
    have no : ¬ okB w (τ 9) d f s m → (fd = -1 ∧ ∀ q, nP w - (i + 1) ≤ q → q < nP w → ¬ okB w (τ 9) d f s q) ∨ ∃ q, nP w - (i + 1) ≤ q ∧ q < nP w ∧ fd = nI q ∧ okB w (τ 9) d f s q ∧ ∀ q', nP w - (i + 1) ≤ q' → q' < q → ¬ okB w (τ 9) d f s q' := by
      intro nk
      rcases hf with ⟨rfl, hf⟩ | ⟨q, h1, h2, rfl, h4, h5⟩
      · refine Or.inl ⟨rfl, fun q h1 h2 => ?_⟩
        by_cases e : q = m
        · subst e; exact nk
        · exact hf q (by omega) h2
      · refine Or.inr ⟨q, by omega, h2, rfl, h4, fun q' g1 g2 => ?_⟩
        by_cases e : q' = m
        · subst e; exact nk
        · exact h5 q' (by omega) g2
    by_cases c2 : mbB w (τ 9) d m s = true
    · rw [c2, if_neg b01T]
      by_cases c3 : τ 9 d + f (s ||| 2 ^ m) = bst w (τ 9) d f s (nP w)
      · rw [if_pos c3]
        exact Rn.mk (Or.inl ⟨_, rfl, by omega, rfl, by omega, Or.inr ⟨m, by omega, hmP, rfl, ⟨c2, c3⟩, fun q' g1 g2 => absurd g1 (by omega)⟩⟩)
      · rw [if_neg c3]
        exact Rn.mk (Or.inl ⟨_, rfl, by omega, rfl, by omega, no (fun g => c3 g.2)⟩)
    · rw [nBf c2, if_pos b01F]
      exact Rn.mk (Or.inl ⟨_, rfl, by omega, rfl, by omega, no (fun g => c2 g.1)⟩)
end AX
