section PGROW
variable {s : State} {D : va_G} {J : Nat → ClassId} {o N9 : Nat} {Ld : Nat → Prop} {H H1 : Heap} {locs locs1 : List Loc} {σ : Cs}
/-- a new cell -/
theorem IP.grow (hI : IP D J o Ld N9 s H locs σ) (hz : H.size ≤ H1.size) (hq : ∀ q : Nat, q < H.size → H1[q]? = H[q]?) : IP D J o Ld N9 s H1 locs σ :=
  ⟨hI.1.kept (fun q h _ => hq q h), ⟨Nat.le_trans hI.2.1.1 hz, fun q h1 h2 => (hq q (Nat.lt_of_lt_of_le h1 hI.2.1.1)).trans (hI.2.1.2.1 q h1 h2), hI.2.1.2.2⟩, hI.2.2⟩
/-- cells made since the method's entry have been written -/
theorem IP.fresh (hI : IP D J o Ld N9 s H locs σ) (hq : ∀ q : Nat, q < H.size → ¬ N9 ≤ q → H1[q]? = H[q]?) (hS : va_S (AP o N9) s.heap H1 locs1) : IP D J o Ld N9 s H1 locs1 σ :=
  hI.call (hI.1.kept (fun q h hr => hq q h (by have h1 := hr.2.1; have h2 := hI.2.2.2; omega))) hS
theorem IP.notC (hI : IP D J o Ld N9 s H locs σ) {a : Nat} (ha : N9 ≤ a) : ¬ rC o a := fun g => by
  have h1 := g.2.1
  have h2 := hI.2.2.2
  omega
end PGROW
