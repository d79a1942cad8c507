/-! PURE: the port's pieces, the component's side -/
section BC
variable {σ : Cs} {ch : Nat → Nat} {E p d : Nat} {b : Int32}
theorem X1_needs_s (h : CB σ ch E) (hp : p ≤ E) (i : Nat) : ∃ K : Kc, 4 * K.1 ≤ 20 + wl ch E p ∧ K.2 ≤ 34 + 5 * wl ch E p ∧ X1_needs (rd σ p b d) i = some (if wq ch E p i = true then .inl (0, rd σ (wnd ch E p) (nI (skp ch E p)) d) else .inr (rd σ (wnd ch E p) (nI (skp ch E p)) d), K) := by
  have hE := h.2.1
  have h0 := skp_le (ch := ch) hp
  have h1 := wnd_ge (ch := ch) (E := E) p
  have h2 := wnd_le (ch := ch) hp
  have wc := wcost (wl ch E p)
  have lw : wlen (rd σ (wnd ch E p) (nI (skp ch E p)) d) = wl ch E p := wlen_rd (by omega) (by omega)
  have c1 : wC (rd σ (wnd ch E p) (nI (skp ch E p)) d) = 4 + wcc (wl ch E p) := by rw [← lw]; rfl
  have c2 : wS (rd σ (wnd ch E p) (nI (skp ch E p)) d) = 28 + wcs (wl ch E p) + wl ch E p := by rw [← lw]; rfl
  unfold X1_needs
  rw [X3_word_s h hp, obs, weq_s h hp, c1, c2]
  by_cases c : wq ch E p i = true
  · rw [c, if_neg b01T, if_pos rfl, addc_s]
    exact ⟨_, by show 4 * (4 + wcc (wl ch E p) + 0) ≤ _; omega, by show 28 + wcs (wl ch E p) + wl ch E p + 0 ≤ _; omega, rfl⟩
  · rw [nBf c, if_pos b01F, if_neg (show ¬ false = true by decide), addc_s]
    exact ⟨_, by show 4 * (4 + wcc (wl ch E p) + 1) ≤ _; omega, by show 28 + wcs (wl ch E p) + wl ch E p + 6 ≤ _; omega, rfl⟩
end BC
