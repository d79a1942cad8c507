/-! the law's objects in a wider region, or deeper -/
section LAWMONO
variable {D : va_G} {J : Nat → ClassId} {G G' : Nat → Prop} {aF : Nat → Nat} {H : Heap}
theorem PartAt.mono {q : Nat} {g : (Nat → Int32) → Int32} (h : PartAt D G aF q g H) (hG : ∀ q, G q → G' q) : PartAt D G' aF q g H := ⟨hG _ h.1, h.2⟩
theorem ListAt.mono {q n : Nat} {els : Nat → Nat} (h : ListAt D J G q n els H) (hG : ∀ q, G q → G' q) : ListAt D J G' q n els H := by
  obtain ⟨h0, mc, arr, cap, f, h1, h2⟩ := h
  exact ⟨hG _ h0, mc, arr, cap, f, hG _ h1, h2⟩
theorem SumAt.mono {q : Nat} {f : (Nat → Int32) → Int32} (h : SumAt D J G aF q f H) (hG : ∀ q, G q → G' q) : SumAt D J G' aF q f H := by
  obtain ⟨h0, lst, n, els, gs, h1, h2, h3, h4⟩ := h
  exact ⟨hG _ h0, lst, n, els, gs, h1, h2.mono hG, fun i hi => (h3 i hi).mono hG, h4⟩
theorem CondAt.mono (hG : ∀ q, G q → G' q) : ∀ (d d' q : Nat) (f : (Nat → Int32) → Int32), d ≤ d' → CondAt D J G aF d q f H → CondAt D J G' aF d' q f H := by
  intro d
  induction d with
  | zero => intro d' q f _ h; exact h.elim
  | succ d ih =>
    intro d' q f hd h
    obtain ⟨e, rfl⟩ : ∃ e, d' = e + 1 := ⟨d' - 1, by omega⟩
    obtain ⟨h0, h⟩ := h
    refine ⟨hG _ h0, ?_⟩
    rcases h with ⟨b, h1, h2, h3⟩ | ⟨a, g, h1, h2, h3⟩ | ⟨a, b, g, h, h1, h2, h3, h4⟩ | ⟨all, lst, n, els, gs, h1, h2, h3, h4, h5⟩
    · exact Or.inl ⟨b, h1, h2, h3⟩
    · exact Or.inr (Or.inl ⟨a, g, h1, ih e a g (by omega) h2, h3⟩)
    · exact Or.inr (Or.inr (Or.inl ⟨a, b, g, h, h1, h2.mono hG, h3.mono hG, h4⟩))
    · exact Or.inr (Or.inr (Or.inr ⟨all, lst, n, els, gs, h1, h2, h3.mono hG, fun i hi => ih e _ _ (by omega) (h4 i hi), h5⟩))
theorem LineAt.mono {q kd : Nat} {n : Int32} {w : (Nat → Int32) → Int32} (h : LineAt D J G aF q kd n w H) (hG : ∀ q, G q → G' q) : LineAt D J G' aF q kd n w H := by
  obtain ⟨h0, h1, h⟩ := h
  refine ⟨hG _ h0, h1, ?_⟩
  rcases h with h | ⟨c, d, hd, h2, h3⟩
  · exact Or.inl h
  · exact Or.inr ⟨c, d, hd, h2, CondAt.mono hG d d c w (Nat.le_refl _) h3⟩
theorem LawAt.mono {q : Nat} {f : Nat → (Nat → Int32) → Int32} {m : Int32} (h : LawAt D J G aF q f m H) (hG : ∀ q, G q → G' q) : LawAt D J G' aF q f m H := by
  obtain ⟨h0, lst, n, els, kd, nn, ww, h1, h2, h3, h4, h5, h6⟩ := h
  exact ⟨hG _ h0, lst, n, els, kd, nn, ww, h1, hG _ h2, h3, fun e => (h4 e).mono hG, fun i hi => (h5 i hi).mono hG, h6⟩
end LAWMONO
