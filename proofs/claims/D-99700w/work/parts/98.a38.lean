/-! PURE: the port's words: a switch over a hash is a choice of words -/
theorem hsh_ext {f g : Nat → Int32} : ∀ n, (∀ j, j < n → f j = g j) → hsh f n = hsh g n := by
  intro n
  induction n with
  | zero => exact fun _ => rfl
  | succ n ih =>
    intro h
    show 31 * hsh f n + (f n &&& 255) = 31 * hsh g n + (g n &&& 255)
    rw [ih (fun j hj => h j (by omega)), h n (by omega)]
theorem wq_2 {ch : Nat → Nat} {E p i j : Nat} (h : wq ch E p i = true) (k : wq ch E p j = true) : lenS.getD i 0 = lenS.getD j 0 ∧ ∀ x, x < lenS.getD i 0 → sBy i x = sBy j x := by
  unfold wq at h k
  obtain ⟨h1, h2⟩ := of_decide_eq_true h
  obtain ⟨k1, k2⟩ := of_decide_eq_true k
  have e : lenS.getD i 0 = lenS.getD j 0 := h1.symm.trans k1
  exact ⟨e, fun x hx => (h2 x hx).symm.trans (k2 x (by omega))⟩
section BA1
variable {σ : Cs} {ch : Nat → Nat} {E p d : Nat}
/-- a word that is the constant i has its hash -/
theorem whash_s (h : CB σ ch E) (hp : p ≤ E) {i : Nat} (hw : weq (rd σ (wnd ch E p) (nI (skp ch E p)) d) i = 1) : whash (rd σ (wnd ch E p) (nI (skp ch E p)) d) = hsh (sBy i) (lenS.getD i 0) := by
  unfold weq beq8 at hw
  by_cases c : wlen (rd σ (wnd ch E p) (nI (skp ch E p)) d) = lenS.getD i 0 ∧ ∀ j, j < wlen (rd σ (wnd ch E p) (nI (skp ch E p)) d) → wby (rd σ (wnd ch E p) (nI (skp ch E p)) d) j = sBy i j
  · unfold whash
    rw [← c.1]
    exact hsh_ext _ c.2
  · rw [if_neg c] at hw
    exact absurd hw (by decide)
end BA1
