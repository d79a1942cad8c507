/-! PURE: buyers, the call -/
section AY
variable {Λ : Nat → Nat → (Nat → Int32) → Int32} {Λn : Nat → Int32} {σ : Cs} {τ : Mm}
theorem bst_pr {w : Mm} {pr pr' : Nat → Int32} {d : Nat} {f : Nat → Int32} {s : Nat} (h : pr d = pr' d) : ∀ p, bst w pr d f s p = bst w pr' d f s p := by
  intro p
  induction p with
  | zero => rfl
  | succ p ih =>
    show (if mbB w pr d p s = true ∧ bst w pr d f s p < pr d + f (s ||| 2 ^ p) then pr d + f (s ||| 2 ^ p) else bst w pr d f s p) = (if mbB w pr' d p s = true ∧ bst w pr' d f s p < pr' d + f (s ||| 2 ^ p) then pr' d + f (s ||| 2 ^ p) else bst w pr' d f s p)
    unfold mbB
    rw [ih, h]
theorem tbV_pr {w : Mm} {pr pr' : Nat → Int32} (h : ∀ d, d < nD w → pr d = pr' d) : ∀ k s, k ≤ nD w → tbV w pr k s = tbV w pr' k s := by
  intro k
  induction k with
  | zero => exact fun _ _ => rfl
  | succ k ih =>
    intro s hk
    show bst w pr (nD w - 1 - k) (tbV w pr k) s (nP w) = bst w pr' (nD w - 1 - k) (tbV w pr' k) s (nP w)
    rw [show tbV w pr k = tbV w pr' k from funext fun s => ih s (by omega)]
    exact bst_pr (h _ (by omega)) _
theorem S_buyers (h : Sys Λ Λn σ τ) (a : Int32) : CallX Λ Λn (cdx [0]) (X1_buyers Λ σ a) (X7_buyers τ a) := by
  unfold X1_buyers X7_buyers X7_buyers_J18
  have main : (a = -1 ∨ ∃ d, d < nD (cw σ 0) ∧ a = nI d) → CallX Λ Λn (cdx [0]) (X1_buyers_J10 Λ σ a) (X7_buyers_J19 τ a 0) := by
    intro ha
    have h0 := h.t0 0
    have z0 : mup τ 10 0 0 10 0 = 0 := mup_s
    have hD := h.1.D.2
    have hP := h.1.P.2
    unfold X1_buyers_J10 X7_buyers_J19 X1_laysSales X7_sales
    rw [obs, if_pos t00]
    generalize mup τ 10 0 0 = τ0 at h0 z0
    obtain ⟨σ1, τ1, e1, e2, h1, ew, z1, pr⟩ := S_prices h0
    have w1 : WR (cw σ 0) (τ1 0) := by rw [← ew]; exact h1.2.1
    obtain ⟨g, e3, t3⟩ := sold38 (Λ := Λ) (σ := σ1) h1.1
    obtain ⟨g7, e4, t4⟩ := T_sales31 h.1 w1
    obtain ⟨g8, e5, t5⟩ := T_sales69 h.1 w1 t4
    rw [ew] at e3 t3
    have h78 : Sys Λ Λn (row8 σ1 g) (mset τ1 8 g8) := h1.co78 rfl rfl (fun r a b => by unfold row8; rw [co_cou, mset_r b]) (fun r a b => mset_r a)
    have z8 : mset τ1 8 g8 10 0 = 0 := by rw [mset_r (by decide), z1, z0]
    have same : ∀ k s, k ≤ nD (cw σ 0) → tbV (cw σ 0) (co σ1 7) k s = tbV (cw σ 0) (τ1 9) k s := fun k s hk => tbV_pr pr k s hk
    rw [e1, obs, obs, ew, h.1.D.1, e3, obs, obs, e2, obs, e4, obs, mset_r (show (0 : Nat) ≠ 8 by decide), T_n5 w1 h.1, obs, e5, obs, obs, row8_c.1, mset_e]
    have first : g 0 = g8 0 := by
      have a1 := t3 (nD (cw σ 0)) 0 (by omega) (by decide)
      have a2 := t5 (nD (cw σ 0)) 0 (by omega) (by decide)
      rw [Nat.sub_self] at a1 a2
      exact a1.trans ((same _ _ (Nat.le_refl _)).trans a2.symm)
    rcases ha with rfl | ⟨dd, hdd, rfl⟩
    · rw [if_pos rfl, if_pos rfl]
      exact .ok h78 z8 rfl (by rw [first])
    · rw [if_neg (nI_nm (by omega)), if_neg (nI_nm (by omega))]
      have e9 : mset τ1 8 g8 9 = τ1 9 := mset_r (by decide)
      have w8 : WR (cw σ 0) (mset τ1 8 g8 0) := by rw [mset_r (by decide)]; exact w1
      have e03 : mset τ1 8 g8 0 3 = nI (nP (cw σ 0)) := (w8 0 1 (by decide)).symm.trans h.1.P.1
      have key := loop_rel (f := X1_buyers_L33 Λ (row8 σ1 g) (nI dd)) (g := X7_buyers_L54 (mset τ1 8 g8) (nI dd)) (fun i (s t : Int32 × Int32 × Int32) => s = t ∧ ∃ T v, T < 64 ∧ s = (nI T, v, nI i)) (fun x y => x = y) (dd + 1) (by unfold FU; omega) (fun i s t hi hr => ?_) (s0 := (0, -1, 0)) (t0 := (0, -1, 0)) ⟨rfl, 0, -1, by decide, rfl⟩
      · obtain ⟨x, y, f1, f2, rfl⟩ := key
        rw [f1, f2, obs, obs]
        exact .ok h78 z8 rfl rfl
      · obtain ⟨rfl, T, v, hT, rfl⟩ := hr
        unfold X1_buyers_L33 X7_buyers_L54
        simp only []
        by_cases ci : i = dd + 1
        · subst ci
          rw [if_pos (nI_lt (by omega) (by omega)), if_pos (nI_lt (by omega) (by omega))]
          exact Or.inr ⟨_, _, rfl, rfl, rfl⟩
        · have hiD : i < nD (cw σ 0) := by omega
          have ki : nD (cw σ 0) - (nD (cw σ 0) - i) = i := by omega
          have kj : nD (cw σ 0) - (nD (cw σ 0) - (i + 1)) = i + 1 := by omega
          have km : nD (cw σ 0) - i = (nD (cw σ 0) - (i + 1)) + 1 := by omega
          have kd : nD (cw σ 0) - 1 - (nD (cw σ 0) - (i + 1)) = i := by omega
          have f0 := tbV_le (w := cw σ 0) (pr := τ1 9) (nD (cw σ 0) - (i + 1)) T
          have row0 : ∀ s, s < 64 → tbV (cw σ 0) (τ1 9) (nD (cw σ 0) - i) s = bst (cw σ 0) (τ1 9) i (tbV (cw σ 0) (τ1 9) (nD (cw σ 0) - (i + 1))) s (nP (cw σ 0)) := fun s hs => by
            rw [km]
            show bst _ _ (nD (cw σ 0) - 1 - (nD (cw σ 0) - (i + 1))) _ _ _ = _
            rw [kd]
          have A1 : ∀ s, s < 64 → g (64 * (i + 1) + s) = tbV (cw σ 0) (τ1 9) (nD (cw σ 0) - (i + 1)) s := fun s hs => by
            have := t3 (nD (cw σ 0) - (i + 1)) s (by omega) hs
            rw [kj] at this
            exact this.trans (same _ _ (by omega))
          have A2 : ∀ s, s < 64 → g8 (64 * (i + 1) + s) = tbV (cw σ 0) (τ1 9) (nD (cw σ 0) - (i + 1)) s := fun s hs => by
            have := t5 (nD (cw σ 0) - (i + 1)) s (by omega) hs
            rw [kj] at this
            exact this
          have B1 : g (64 * i + T) = bst (cw σ 0) (τ1 9) i (tbV (cw σ 0) (τ1 9) (nD (cw σ 0) - (i + 1))) T (nP (cw σ 0)) := by
            have := t3 (nD (cw σ 0) - i) T (by omega) hT
            rw [ki] at this
            exact this.trans ((same _ _ (by omega)).trans (row0 T hT))
          have B2 : g8 (64 * i + T) = bst (cw σ 0) (τ1 9) i (tbV (cw σ 0) (τ1 9) (nD (cw σ 0) - (i + 1))) T (nP (cw σ 0)) := by
            have := t5 (nD (cw σ 0) - i) T (by omega) hT
            rw [ki] at this
            exact this.trans (row0 T hT)
          have pe : bst (cw σ 0) (co σ1 7) i (tbV (cw σ 0) (τ1 9) (nD (cw σ 0) - (i + 1))) T (nP (cw σ 0)) = bst (cw σ 0) (τ1 9) i (tbV (cw σ 0) (τ1 9) (nD (cw σ 0) - (i + 1))) T (nP (cw σ 0)) := bst_pr (pr i hiD) _
          have oke : ∀ q, okB (cw σ 0) (co σ1 7) i (tbV (cw σ 0) (τ1 9) (nD (cw σ 0) - (i + 1))) T q ↔ okB (cw σ 0) (τ1 9) i (tbV (cw σ 0) (τ1 9) (nD (cw σ 0) - (i + 1))) T q := fun q => by
            unfold okB mbB
            rw [pe, pr i hiD]
          have ecw : cw (row8 σ1 g) 0 = cw σ 0 := by rw [row8_c.2.2, ew]
          obtain ⟨x, s1, sx⟩ := sold41 (Λ := Λ) (σ := row8 σ1 g) (d := i) (s := T) (f := tbV (cw σ 0) (τ1 9) (nD (cw σ 0) - (i + 1))) (c1 := nI dd) (by rw [ecw]; exact h.1) (by rw [ecw]; exact hiD) hT f0 (fun s hs => by rw [row8_c.1]; exact A1 s hs) (by rw [row8_c.1, row8_c.2.1, ecw, pe]; exact B1)
          rw [ecw, row8_c.2.1, pe] at sx
          rw [if_neg (nI_nlt (by omega) (by omega)), if_neg (nI_nlt (by omega) (by omega)), s1, obs, nI_1, show (64 : Int32) * nI (i + 1) + nI T = nI (64 * (i + 1) + T) from by rw [show (64 : Int32) = nI 64 from rfl, pk_mul, nI_add], mset_e, ldN (by omega) (by decide), A2 T hT, show (64 : Int32) * nI i + nI T = nI (64 * i + T) from by rw [show (64 : Int32) = nI 64 from rfl, pk_mul, nI_add], ldN (by omega) (by decide), B2, e03]
          simp only [obs]
          rcases sx with ⟨rfl, c⟩ | ⟨q, hq, rfl, c, ok, least⟩
          · rw [if_pos c, if_pos rfl]
            exact Or.inl ⟨_, _, rfl, rfl, by omega, rfl, T, -1, hT, rfl⟩
          · obtain ⟨y, u1, uy⟩ := T_buyers104 (τ := mset τ1 8 g8) (d := i) (s := T) (f := tbV (cw σ 0) (τ1 9) (nD (cw σ 0) - (i + 1))) (c1 := nI dd) h.1 w8 hiD hT (fun s hs => by rw [mset_e]; exact A2 s hs) (by rw [mset_e, e9]; exact B2)
            rw [e9] at uy
            have yq : y = nI q := by
              rcases uy with ⟨-, none⟩ | ⟨q', hq', rfl, ok', least'⟩
              · exact absurd ((oke q).mp ok) (none q hq)
              · have : q' = q := by
                  rcases Nat.lt_trichotomy q' q with g | g | g
                  · exact absurd ((oke q').mpr ok') (least q' g)
                  · exact g
                  · exact absurd ((oke q).mp ok) (least' q g)
                rw [this]
            subst yq
            obtain ⟨o1, o2⟩ := or_set T hT q (by omega)
            rw [if_neg c, if_neg (nI_nm (by omega)), u1]
            simp only [obs]
            rw [o1]
            exact Or.inl ⟨_, _, rfl, rfl, by omega, rfl, _, _, o2, rfl⟩
  by_cases c : a = -1
  · rw [if_pos c, if_pos c]
    exact main (Or.inl c)
  · rw [if_neg c, if_neg c, X1_deedAt_s, T_isDeed h.2.1, obs, obs]
    by_cases c2 : inB a 0 (cw σ 0 0 3 - 1) = true
    · rw [if_pos c2, c2, if_neg b01T]
      simp only [Sum.elim_inl]
      exact main (Or.inr (inB_D h.1 c2))
    · unfold X7_buyers_J19
      rw [if_neg c2, nBf c2, if_pos b01F, obs, if_neg (t01 (by decide))]
      simp only [Sum.elim_inr]
      exact .er0 h rfl (by decide) rfl rfl
end AY
