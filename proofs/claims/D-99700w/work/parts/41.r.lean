/-! THE UNDO LIST rides in the state: worlds 5.. are what is remembered, the oldest first; co 9 0 says how many. Its cells: the list at o+85, its array, a block for each world; these lie in Us -/
def AU (o : Nat) (Ur : Nat → Prop) (N : Nat) : Nat → Prop := fun q => rC o q ∨ q = o + 85 ∨ Ur q ∨ N ≤ q
def lsF (n : Nat) (u : Nat → Nat) : Nat → Option Nat := fun j => if j < n then some (u j) else none
def UA (D : va_G) (J : Nat → ClassId) (o : Nat) (Ld : Nat → Prop) (e0 : Nat) (Us : Nat → Prop) (σ : Cs) (n cap arr : Nat) (mc : Int32) (u : Nat → Nat) (H : Heap) : Prop :=
  co σ 9 0 = nI n ∧ n ≤ 12 ∧ n ≤ cap ∧ cap ≤ 16 ∧ (cap = 0 → arr = e0) ∧ (0 < cap → Us arr) ∧ va_at D vwC (o + 85, .inr (6, [.int mc, .ref arr, .int (nI n)])) H ∧ va_at D vwC (arr, qc (J 4) cap (lsF n u)) H ∧ (∀ i, i < n → va_P D vwC (ctW J (u i) (cl σ (5 + i)) (cw σ (5 + i))) H ∧ (∀ q, rW (u i) q → Us q ∧ q ≠ arr) ∧ ∀ a, cl σ (5 + i) = some a → Ld a) ∧ ∀ i j, i < n → j < n → i ≠ j → u i + 19 < u j ∨ u j + 19 < u i
def UP (D : va_G) (J : Nat → ClassId) (o : Nat) (Ld : Nat → Prop) (e0 : Nat) (Us : Nat → Prop) (σ : Cs) (H : Heap) : Prop := ∃ (n cap arr : Nat) (mc : Int32) (u : Nat → Nat), UA D J o Ld e0 Us σ n cap arr mc u H
/-- the remembered part is the same -/
def uSame (σ σ' : Cs) : Prop := co σ' 9 0 = co σ 9 0 ∧ ∀ i, cw σ' (5 + i) = cw σ (5 + i) ∧ cl σ' (5 + i) = cl σ (5 + i)
/-- the remembered part of σ, all else of σ' -/
def uk (σ σ' : Cs) : Cs := (fun i => if i < 5 then cw σ' i else cw σ i, fun r j => if r = 9 then co σ r j else co σ' r j, fun i => if i < 5 then cl σ' i else cl σ i, cq σ')
theorem uk_w {σ σ' : Cs} {k : Nat} (h : k < 5) : cw (uk σ σ') k = cw σ' k := if_pos h
theorem uk_l {σ σ' : Cs} {k : Nat} (h : k < 5) : cl (uk σ σ') k = cl σ' k := if_pos h
theorem uSame_uk (σ σ' : Cs) : uSame σ (uk σ σ') := ⟨rfl, fun i => ⟨if_neg (by omega), if_neg (by omega)⟩⟩
theorem uSame_w {σ : Cs} {k : Nat} {w : Mm} (h : k < 5) : uSame σ (cwu σ k w) := ⟨rfl, fun i => ⟨if_neg (by omega), rfl⟩⟩
theorem uSame_l {σ : Cs} {k : Nat} {w : Mm} {x : Option Nat} (h : k < 5) : uSame σ (clu (cwu σ k w) k x) := ⟨rfl, fun i => ⟨if_neg (by omega), if_neg (by omega)⟩⟩
section UPS
variable {D : va_G} {J : Nat → ClassId} {o z e0 mi N : Nat} {Ld Us G Ur : Nat → Prop} {σ σ' : Cs} {H H1 : Heap}
theorem UP.same (h : UP D J o Ld e0 Us σ H) (e : uSame σ σ') : UP D J o Ld e0 Us σ' H := by
  obtain ⟨n, cap, arr, mc, u, h1, h2, h3, h4, h5, h6, h7, h8, h9, h10⟩ := h
  refine ⟨n, cap, arr, mc, u, e.1.trans h1, h2, h3, h4, h5, h6, h7, h8, fun i hi => ?_, h10⟩
  rw [(e.2 i).1, (e.2 i).2]
  exact h9 i hi
theorem UP.mono {Us' : Nat → Prop} (h : UP D J o Ld e0 Us σ H) (e : ∀ q, Us q → Us' q) : UP D J o Ld e0 Us' σ H := by
  obtain ⟨n, cap, arr, mc, u, h1, h2, h3, h4, h5, h6, h7, h8, h9, h10⟩ := h
  exact ⟨n, cap, arr, mc, u, h1, h2, h3, h4, h5, fun h => e _ (h6 h), h7, h8, fun i hi => ⟨(h9 i hi).1, fun q hq => ⟨e q ((h9 i hi).2.1 q hq).1, ((h9 i hi).2.1 q hq).2⟩, (h9 i hi).2.2⟩, h10⟩
theorem rW_lt {a q : Nat} {la : Option Nat} {τ : Mm} (h : va_P D vwC (ctW J a la τ) H) (hq : rW a q) : q < H.size := by
  have := (h 19 _ rfl).lt
  have h2 : q ≤ a + 19 := hq.2
  have h3 : a + 19 < H.size := this
  omega
theorem UP.cut (h : UP D J o Ld e0 Us σ H) : UP D J o Ld e0 (fun q => Us q ∧ q < H.size) σ H := by
  obtain ⟨n, cap, arr, mc, u, h1, h2, h3, h4, h5, h6, h7, h8, h9, h10⟩ := h
  exact ⟨n, cap, arr, mc, u, h1, h2, h3, h4, h5, fun h => ⟨h6 h, h8.lt⟩, h7, h8, fun i hi => ⟨(h9 i hi).1, fun q hq => ⟨⟨((h9 i hi).2.1 q hq).1, rW_lt (h9 i hi).1 hq⟩, ((h9 i hi).2.1 q hq).2⟩, (h9 i hi).2.2⟩, h10⟩
theorem UP.kept (h : UP D J o Ld e0 Us σ H) (hq : ∀ q : Nat, q < H.size → (q = o + 85 ∨ Us q ∨ q = e0) → H1[q]? = H[q]?) : UP D J o Ld e0 Us σ H1 := by
  obtain ⟨n, cap, arr, mc, u, h1, h2, h3, h4, h5, h6, h7, h8, h9, h10⟩ := h
  refine ⟨n, cap, arr, mc, u, h1, h2, h3, h4, h5, h6, h7.kept (hq _ h7.lt (Or.inl rfl)), h8.kept (hq _ h8.lt ?_), fun i hi => ⟨(h9 i hi).1.kept (fun k q hk => ?_), (h9 i hi).2⟩, h10⟩
  · rcases Nat.eq_zero_or_pos cap with e | e
    · exact Or.inr (Or.inr (h5 e))
    · exact Or.inr (Or.inl (h6 e))
  · have h11 := ctW_at k q hk
    exact hq q.1 ((h9 i hi).1 k q hk).lt (Or.inr (Or.inl ((h9 i hi).2.1 q.1 ⟨by omega, by omega⟩).1))
/-- where the list's cells may lie -/
def UR (o z : Nat) (G Ur : Nat → Prop) (e0 N : Nat) : Prop := (∀ q, Ur q → z ≤ q ∧ ¬ rC o q ∧ q ≠ o + 85) ∧ (∀ q, G q → ¬ rC o q ∧ q ≠ o + 85 ∧ ¬ Ur q ∧ q < N) ∧ o + 110 < N ∧ z ≤ o ∧ ¬ z ≤ e0
theorem UR.za (h : UR o z G Ur e0 N) : ∀ q, AU o Ur N q → z ≤ q := by
  intro q hq
  rcases hq with g | g | g | g
  · exact Nat.le_trans h.2.2.2.1 g.1
  · have := h.2.2.2.1
    omega
  · exact (h.1 q g).1
  · have := h.2.2.2.1
    have := h.2.2.1
    omega
theorem UR.us (h : UR o z G Ur e0 N) : ∀ q, (q = o + 85 ∨ (Ur q ∨ N ≤ q) ∨ q = e0) → ¬ rC o q := by
  intro q hq hr
  obtain ⟨r1, r2, r3⟩ := hr
  rcases hq with g | (g | g) | g
  · exact r3 g
  · exact (h.1 q g).2.1 ⟨r1, r2, r3⟩
  · have := h.2.2.1
    omega
  · have := h.2.2.2.1
    have := h.2.2.2.2
    omega
def EU (e0 mi : Nat) (J : Nat → ClassId) (z : Nat) (U : State) : Prop := AlE J z e0 U ∧ va_AO "java/lang/Object" U ∧ va_Mi "[Ljava/lang/Object;" mi U ∧ va_Dc U ∧ va_Nw (.castable RX2 "java/lang/Object") U
theorem EU.go {s U : State} (h : EU e0 mi J z s) (hW : s.WarmedH U.vm) (hq : ∀ q : Nat, q < s.heap.size → ¬ z ≤ q → U.heap[q]? = s.heap[q]?) : EU e0 mi J z U := ⟨h.1.go hW hq, h.2.1.moved hW.alike, h.2.2.1.moved hW.alike, h.2.2.2.1.moved hW.alike, va_Nw.warmC hW h.2.2.2.2⟩
theorem EU.eq {s : State} {aK aV : Nat → Nat} (h : EU e0 mi J z s) (h2 : EC D J z aK aV s) : EQ aK aV e0 mi D J z s := ⟨⟨h2, h.1⟩, h.2.1, h.2.2.1, h.2.2.2.1⟩
theorem ECC.goZ {aK aV aF : Nat → Nat} {Λ : Nat → Nat → (Nat → Int32) → Int32} {Λn : Nat → Int32} {s U : State} (h : ECC D J o z aK aV G Ld aF Λ Λn s) (hW : s.WarmedH U.vm) (hz : ∀ q : Nat, q < s.heap.size → ¬ z ≤ q → U.heap[q]? = s.heap[q]?) (hG : ∀ q : Nat, q < s.heap.size → G q → U.heap[q]? = s.heap[q]?) : ECC D J o z aK aV G Ld aF Λ Λn U :=
  ⟨h.1.go hW hz, ⟨fun a ha => (h.2.1.1 a ha).kept hG, h.2.1.2⟩, h.2.2.1, h.2.2.2.1.go hW hz, h.2.2.2.2.go hW⟩
def ECU (D : va_G) (J : Nat → ClassId) (o z : Nat) (aK aV : Nat → Nat) (G Ld : Nat → Prop) (aF : Nat → Nat) (Λ : Nat → Nat → (Nat → Int32) → Int32) (Λn : Nat → Int32) (e0 mi : Nat) (Ur : Nat → Prop) (N : Nat) (U : State) : Prop := (ECX D J o z aK aV G Ld aF Λ Λn U ∧ EU e0 mi J z U) ∧ UR o z G Ur e0 N
theorem ECU.goZ {aK aV aF : Nat → Nat} {Λ : Nat → Nat → (Nat → Int32) → Int32} {Λn : Nat → Int32} {s U : State} (h : ECU D J o z aK aV G Ld aF Λ Λn e0 mi Ur N s) (hW : s.WarmedH U.vm) (hq : ∀ q : Nat, q < s.heap.size → ¬ AU o Ur N q → U.heap[q]? = s.heap[q]?) (hN : s.heap.size = N) : ECU D J o z aK aV G Ld aF Λ Λn e0 mi Ur N U := by
  have hz : ∀ q : Nat, q < s.heap.size → ¬ z ≤ q → U.heap[q]? = s.heap[q]? := fun q h1 h2 => hq q h1 (fun g => h2 (h.2.za q g))
  refine ⟨⟨⟨h.1.1.1.goZ hW hz (fun q h1 h2 => hq q h1 (fun g => ?_)), h.1.1.2.go hW hz⟩, h.1.2.go hW hz⟩, h.2⟩
  have hg := h.2.2.1 q h2
  rcases g with g | g | g | g
  · exact hg.1 g
  · exact hg.2.1 g
  · exact hg.2.2.1 g
  · omega
theorem ECU.refl {aK aV aF : Nat → Nat} {Λ : Nat → Nat → (Nat → Int32) → Int32} {Λn : Nat → Int32} {s U : State} (h : ECU D J o z aK aV G Ld aF Λ Λn e0 mi Ur N s) (hW : s.WarmedH U.vm) (hq : U.heap = s.heap) : ECU D J o z aK aV G Ld aF Λ Λn e0 mi Ur N U :=
  ⟨⟨⟨h.1.1.1.goZ hW (fun q _ _ => by rw [hq]) (fun q _ _ => by rw [hq]), h.1.1.2.go hW (fun q _ _ => by rw [hq])⟩, h.1.2.go hW (fun q _ _ => by rw [hq])⟩, h.2⟩
def IU (D : va_G) (J : Nat → ClassId) (o : Nat) (Ld : Nat → Prop) (z : Nat) (G : Nat → Prop) (e0 : Nat) (Ur : Nat → Prop) (N : Nat) (s : State) (H : Heap) (locs : List Loc) (σ : Cs) : Prop := PC D J o Ld σ H ∧ va_S (AU o Ur N) s.heap H locs ∧ UP D J o Ld e0 (fun q => Ur q ∨ N ≤ q) σ H ∧ UR o z G Ur e0 N ∧ s.heap.size = N
theorem IU.old {s : State} {locs : List Loc} (hI : IU D J o Ld z G e0 Ur N s H locs σ) : ∀ q : Nat, q < s.heap.size → ¬ AU o Ur N q → H[q]? = s.heap[q]? := hI.2.1.2.1
theorem IU.oz {s : State} {locs : List Loc} (hI : IU D J o Ld z G e0 Ur N s H locs σ) : ∀ q : Nat, q < s.heap.size → ¬ z ≤ q → H[q]? = s.heap[q]? := fun q h1 h2 => hI.old q h1 (fun g => h2 (hI.2.2.2.1.za q g))
theorem IU.zS {s : State} {locs : List Loc} {aK aV aF : Nat → Nat} {Λ : Nat → Nat → (Nat → Int32) → Int32} {Λn : Nat → Int32} (hI : IU D J o Ld z G e0 Ur N s H locs σ) (_ : ECC D J o z aK aV G Ld aF Λ Λn s) : va_S (zZ z) s.heap H locs := ⟨hI.2.1.1, fun q h1 h2 => hI.oz q h1 h2, fun l hl => hI.2.2.2.1.za _ (hI.2.1.2.2 l hl)⟩
theorem IU.envC {aK aV aF : Nat → Nat} {Λ : Nat → Nat → (Nat → Int32) → Int32} {Λn : Nat → Int32} {s : State} {locs : List Loc} (hI : IU D J o Ld z G e0 Ur N s H locs σ) (hE : ECC D J o z aK aV G Ld aF Λ Λn s) {U : State} (hU : U.heap = H) (hW : s.WarmedH U.vm) : ECC D J o z aK aV G Ld aF Λ Λn U := by
  refine hE.goZ hW (fun q h1 h2 => by rw [hU]; exact hI.oz q h1 h2) (fun q h1 h2 => (by rw [hU] : U.heap[q]? = H[q]?).trans (hI.old q h1 (fun g => ?_)))
  have hg := hI.2.2.2.1.2.1 q h2
  have hN := hI.2.2.2.2
  rcases g with g | g | g | g
  · exact hg.1 g
  · exact hg.2.1 g
  · exact hg.2.2.1 g
  · omega
theorem IU.envT {s : State} {locs : List Loc} (hI : IU D J o Ld z G e0 Ur N s H locs σ) (hT : ThrE z s) {U : State} (hU : U.heap = H) (hW : s.WarmedH U.vm) : ThrE z U := hT.go hW (fun q h1 h2 => by rw [hU]; exact hI.oz q h1 h2)
/-- cells of the component's own have changed -/
theorem IU.by {s : State} {locs locs1 : List Loc} (hI : IU D J o Ld z G e0 Ur N s H locs σ) (hP : PC D J o Ld σ' H1) (e : uSame σ σ') (hk : ∀ q : Nat, q < H.size → ¬ rC o q → H1[q]? = H[q]?) (hS : va_S (AU o Ur N) s.heap H1 locs1) : IU D J o Ld z G e0 Ur N s H1 locs1 σ' :=
  ⟨hP, hS, (hI.2.2.1.same e).kept (fun q h1 h2 => hk q h1 (hI.2.2.2.1.us q h2)), hI.2.2.2⟩
theorem PC.toUk (hP : PC D J o Ld σ' H) : PC D J o Ld (uk σ σ') H := by
  refine ⟨fun k hk => ?_, hP.2.1, fun k hk a ha => hP.2.2 k hk a ?_⟩
  · rw [uk_w hk, uk_l hk]
    exact hP.1 k hk
  · rw [uk_l hk] at ha
    exact ha
theorem IU.call {s : State} {locs locs1 : List Loc} (hI : IU D J o Ld z G e0 Ur N s H locs σ) (hP : PC D J o Ld σ' H1) (hk : ∀ q : Nat, q < H.size → ¬ rC o q → H1[q]? = H[q]?) (hS : va_S (AU o Ur N) s.heap H1 locs1) : IU D J o Ld z G e0 Ur N s H1 locs1 (uk σ σ') := hI.by hP.toUk (uSame_uk σ σ') hk hS
theorem IU.putW {s : State} {locs : List Loc} (hI : IU D J o Ld z G e0 Ur N s H locs σ) {k : Nat} (hk : k < 5) {P a : Nat} {e0' e1 : va_E} {w' : Mm} {locs1 : List Loc} (h0 : (ctW J (wA o k) (cl σ k) (cw σ k))[P]? = some (a, e0')) (hs : (ctW J (wA o k) (cl σ k) (cw σ k)).set P (a, e1) = ctW J (wA o k) (cl σ k) w') (hat : va_at D vwC (a, e1) H1) (hz : H1.size = H.size) (hq : ∀ q : Nat, q ≠ a → H1[q]? = H[q]?) (hl : ∀ l ∈ locs1, l ∈ locs ∨ l.base = a) : IU D J o Ld z G e0 Ur N s H1 locs1 (cwu σ k w') := by
  have hr : rW (wA o k) a := by
    have := ctW_at P _ h0
    exact ⟨by omega, by omega⟩
  refine hI.by (hI.1.setW hk ?_ (fun q _ h2 => hq q (fun e => h2 (by rw [e]; exact hr))) (fun i hi => ⟨if_neg hi, rfl⟩) ⟨rfl, rfl⟩ (fun a ha => hI.1.2.2 k hk a ha)) (uSame_w hk) (fun q _ h2 => hq q (fun e => h2 (by rw [e]; exact rW_rC hk a hr))) (va_S.one hI.2.1 (Or.inl (rW_rC hk a hr)) hz hq hl)
  rw [show cw (cwu σ k w') k = w' from if_pos rfl, show cl (cwu σ k w') k = cl σ k from rfl, ← hs]
  exact (hI.1.1 k hk).set ctW_D h0 hat hq
theorem IU.putO {s : State} {locs : List Loc} (hI : IU D J o Ld z G e0 Ur N s H locs σ) {P a : Nat} {e0' e1 : va_E} {locs1 : List Loc} (h0 : (ctO J o σ)[P]? = some (a, e0')) (hs : (ctO J o σ).set P (a, e1) = ctO J o σ') (h1 : cw σ' = cw σ ∧ cl σ' = cl σ) (hat : va_at D vwC (a, e1) H1) (hz : H1.size = H.size) (hq : ∀ q : Nat, q ≠ a → H1[q]? = H[q]?) (hl : ∀ l ∈ locs1, l ∈ locs ∨ l.base = a) (h9 : co σ' 9 0 = co σ 9 0 := by rfl) : IU D J o Ld z G e0 Ur N s H1 locs1 σ' :=
  hI.by (hI.1.setO h0 hs hat hq h1) ⟨h9, fun i => ⟨by rw [h1.1], by rw [h1.2]⟩⟩ (fun q _ h2 => hq q (fun e => h2 (by rw [e]; exact rO_rC h0))) (va_S.one hI.2.1 (Or.inl (rO_rC h0)) hz hq hl)
end UPS
def CUv (y : MethodName) (cd : ByteArray) (nL : Nat) (ret : Option FieldType) (fr lo mc ms : Nat) (Λ : Nat → Nat → (Nat → Int32) → Int32) (Λn : Nat → Int32) (As : Nat → List Value) (σ σ' : Cs) : Prop :=
  ∀ (l : Launch) (D : va_G) (J : Nat → ClassId) (o z : Nat) (aK aV : Nat → Nat) (G Ld : Nat → Prop) (aF : Nat → Nat) (e0 mi : Nat) (Ur : Nat → Prop) (N : Nat), Met l y (ws_ y cd nL ret) ({ frames := fr, cells := mc, slots := ms, locals := lo }) (va_Pc (As o) (fun U => (U.heap.size = N ∧ PC D J o Ld σ U.heap ∧ UP D J o Ld e0 Ur σ U.heap) ∧ ECU D J o z aK aV G Ld aF Λ Λn e0 mi Ur N U)) (va_Qv (fun (_ : Unit) => True) (fun _ t => PC D J o Ld σ' t.heap ∧ UP D J o Ld e0 (fun q => Ur q ∨ N ≤ q) σ' t.heap) (AU o Ur N)) mc ms (AU o Ur N)
def CYi (y : MethodName) (cd : ByteArray) (nL : Nat) (ret : Option FieldType) (fr lo mc ms : Nat) (Λ : Nat → Nat → (Nat → Int32) → Int32) (Λn : Nat → Int32) (As : Nat → (Nat → Nat) → (Nat → Nat) → List Value) (out : Xo) (σ : Cs) : Prop :=
  ∀ (l : Launch) (D : va_G) (J : Nat → ClassId) (o z : Nat) (aK aV : Nat → Nat) (G Ld : Nat → Prop) (aF : Nat → Nat) (e0 mi : Nat) (Ur : Nat → Prop) (N : Nat), l.stackTraces = false → vx_Met l y (ws_ y cd nL ret) ({ frames := fr, cells := mc, slots := ms, locals := lo }) (va_Pc (As o aK aF) (fun U => (U.heap.size = N ∧ PC D J o Ld σ U.heap ∧ UP D J o Ld e0 Ur σ U.heap) ∧ ECU D J o z aK aV G Ld aF Λ Λn e0 mi Ur N U)) (va_Qi (fun (x : Int32) (σ' : Cs) => out = .inl (x, σ')) (fun σ' t => PC D J o Ld σ' t.heap ∧ UP D J o Ld e0 (fun q => Ur q ∨ N ≤ q) σ' t.heap) (AU o Ur N)) (vx_X (fun (u : Nat × Cs) => out = .inr u) (fun E u t => E = exN u.1 ∧ PC D J o Ld u.2 t.heap ∧ UP D J o Ld e0 (fun q => Ur q ∨ N ≤ q) u.2 t.heap) (AU o Ur N)) mc ms (AU o Ur N)

theorem CYi.of {y : MethodName} {cd : ByteArray} {nL fr lo mc ms : Nat} {Λ : Nat → Nat → (Nat → Int32) → Int32} {Λn : Nat → Int32} {As : Nat → (Nat → Nat) → (Nat → Nat) → List Value} {out : Xo} {σ : Cs} (hy : plainName y.cls = true) (hlen : ∀ (o : Nat) (aK aF : Nat → Nat), (lg_sl (As o aK aF)).length ≤ nL)
    (body : ∀ (p : Program) (l : Launch) (e : Env) (s : State) (m : MethodId) (args : Array Value) (below : List Frame) (meth : Method) (c : Code) (D : va_G) (J : Nat → ClassId) (o z : Nat) (aK aV : Nat → Nat) (G Ld : Nat → Prop) (aF : Nat → Nat) (e0 mi : Nat) (Ur : Nat → Prop) (N : Nat) (Q : State → Prop) (ls : Array Slot), l.stackTraces = false → p.tables.exec = Jvm.exec → c.code = cd → c.maxLocals = nL → s.vm.findClass y.cls = some m.cls → (∀ w ∈ lw_all, w.before args s = true) → ECC D J o z aK aV G Ld aF Λ Λn s → ThrE z s → EU e0 mi J z s →
      (∀ (H : Heap) (locs : List Loc) (pc : Nat) (ls : Array Slot) (x : Int32) (σ' : Cs), IU D J o Ld z G e0 Ur N s H locs σ' → out = .inl (x, σ') → decode cd pc = .ok (.ireturn, 1) → W p l e ({ frames := fr, cells := mc, slots := ms, locals := lo } : Room) s m args below meth c H locs mc ms Q (F0 m pc ls [.int x])) →
      (∀ (H : Heap) (locs : List Loc) (pc : Nat) (ls : Array Slot) (rest : List Value) (cells slots : Nat) (E : String) (ce : Cell) (q9 : Addr) (n : Nat) (σ' : Cs), IU D J o Ld z G e0 Ur N s H locs σ' → out = .inr (n, σ') → E = exN n → H[q9]? = some ce → ce.vm = .none → s.vm.findClass E = some ce.cls → cells ≤ mc → slots ≤ ms → vx_W p l e ({ frames := fr, cells := mc, slots := ms, locals := lo } : Room) s m args below meth c H locs cells slots Q (F0 m pc ls rest) q9) →
      (∀ (H : Heap) (locs : List Loc) (pc : Nat) (ls : Array Slot) (cells slots : Nat) (i ik ic : Nat) (names : List String) (σ' : Cs), IU D J o Ld z G e0 Ur N s H locs σ' → out = .inr (i, σ') → ls.size = nL → (Cond.classLink y.cls ik (exN i)).before args s = true → (Cond.initialized (exN i)).before args s = true → (∀ w ∈ vx_at0 y.cls ic (exN i) names, w.before args s = true) → (∀ w ∈ Cond.classLink y.cls ik (exN i) :: Cond.initialized (exN i) :: vx_at0 y.cls ic (exN i) names, vx_ot w = true) → Bundle.fit (exN i) = true → (∀ n ∈ names, Bundle.fit n = true) → decode cd pc = .ok (.new ik, 3) → decode cd (pc + 3) = .ok (.dup, 1) → decode cd (pc + 4) = .ok (.invokespecial ic, 3) → decode cd (pc + 7) = .ok (.athrow, 1) → names.length + 3 < fr → 13 * (names.length + 1) + 42 ≤ lo → cells + 1 ≤ mc → slots + 6 ≤ ms → W p l e ({ frames := fr, cells := mc, slots := ms, locals := lo } : Room) s m args below meth c H locs cells slots Q (F0 m pc ls [])) →
      IU D J o Ld z G e0 Ur N s s.heap [] σ → lv_has ls nL (lv_args 0 (As o aK aF)) → W p l e ({ frames := fr, cells := mc, slots := ms, locals := lo } : Room) s m args below meth c s.heap [] 0 0 Q (F0 m 0 ls [])) : CYi y cd nL (some .int) fr lo mc ms Λ Λn As out σ := by
  intro l D J o z aK aV G Ld aF e0 mi Ur N hst
  refine vx_ofW (cc := cd) (maxL := nL) (ret := some .int) hy rfl ?_
  intro p e s m args below meth c s₁ B hml htab hv
  obtain ⟨rfl, ⟨hN, hP, hU0⟩, ⟨⟨hE, hT⟩, hEU⟩, hUR⟩ := hv
  have hts := atoms_spec (ws := ws_ y cd nL (some .int)) B.pre
  have hts : ∀ w ∈ lw_all, w.before _ s = true := fun w h => hts w (List.mem_cons_of_mem _ h)
  have hl := lv_entry (As o aK aF) (n := nL) (hlen o aK aF)
  rw [lg_entry_eq]
  generalize (lg_sl (As o aK aF) ++ List.replicate (nL - (lg_sl (As o aK aF)).length) Slot.unset).toArray = ls at hl ⊢
  have hown := findClass_of_methodNamed B.named
  refine body p l e s m _ below meth c D J o z aK aV G Ld aF e0 mi Ur N _ ls hst B.exec B.bytes hml hown hts hE hT hEU (fun H locs pc ls x σ' hI ho hdg => vx_ret ?_) (fun H locs pc ls rest cells slots E ce q9 n σ' hI ho hn h1 h2 h3 hc hs => ?_) (fun H locs pc ls cells slots i ik ic names σ' hI ho hls hk hini hat hgood hfit hfits d0 d3 d4 d7 hfr hlo hc hs => ?_) ⟨hP, va_S.rf, hU0.mono (fun q h => Or.inl h), hUR, hN⟩ hl
  · exact W.iret B.exec B.bytes B.returns (fun t ht hW => ⟨⟨x, σ', rfl, ho, by show PC D J o Ld σ' t.heap ∧ UP D J o Ld e0 _ σ' t.heap; rw [ht]; exact ⟨hI.1, hI.2.2.1⟩⟩, hI.2.1.F ht⟩) hI.2.1.2.2 hdg B.notSynchronized
  · exact vx_out (fun x hx => (htab x hx).elim) B.notSynchronized h1 h2 h3 (fun t ht _ => ⟨(n, σ'), ho, ⟨hn, by rw [ht]; exact ⟨hI.1, hI.2.2.1⟩⟩, hI.2.1.F ht⟩) hI.2.1.2.2 hc hs
  · exact vx_throw0 (A := zZ z) (names := names) B.exec B.bytes hst hown hfit hfits hk hini hat hgood hT.2.2.1 hT.2.2.2 (hI.zS hE) (by rw [hls, hml]) d0 d3 d4 d7 (fun x hx => (htab x hx).elim) hfr (by simpa using hlo) hc hs B.notSynchronized (fun t _ hz hq => ⟨(i, σ'), ho, ⟨rfl, hI.1.kept (fun q h1 _ => hq q h1), hI.2.2.1.kept (fun q h1 _ => hq q h1)⟩, ⟨Nat.le_trans hI.2.1.1 hz, fun q h1 h2 => (hq q (Nat.lt_of_lt_of_le h1 hI.2.1.1)).trans (hI.2.1.2.1 q h1 h2)⟩⟩) hI.2.1.2.2 hc hs
theorem CYz.of {y : MethodName} {cd : ByteArray} {nL fr lo mc ms : Nat} {Λ : Nat → Nat → (Nat → Int32) → Int32} {Λn : Nat → Int32} {As : Nat → (Nat → Nat) → (Nat → Nat) → List Value} {out : Xo} {σ : Cs} (hy : plainName y.cls = true) (hlen : ∀ (o : Nat) (aK aF : Nat → Nat), (lg_sl (As o aK aF)).length ≤ nL)
    (body : ∀ (p : Program) (l : Launch) (e : Env) (s : State) (m : MethodId) (args : Array Value) (below : List Frame) (meth : Method) (c : Code) (D : va_G) (J : Nat → ClassId) (o z : Nat) (aK aV : Nat → Nat) (G Ld : Nat → Prop) (aF : Nat → Nat) (e0 mi : Nat) (Ur : Nat → Prop) (N : Nat) (Q : State → Prop) (ls : Array Slot), l.stackTraces = false → p.tables.exec = Jvm.exec → c.code = cd → c.maxLocals = nL → s.vm.findClass y.cls = some m.cls → (∀ w ∈ lw_all, w.before args s = true) → ECC D J o z aK aV G Ld aF Λ Λn s → ThrE z s → EU e0 mi J z s →
      (∀ (H : Heap) (locs : List Loc) (pc : Nat) (ls : Array Slot) (x : Int32) (σ' : Cs), IU D J o Ld z G e0 Ur N s H locs σ' → out = .inl (x, σ') → (x = 0 ∨ x = 1) → decode cd pc = .ok (.ireturn, 1) → W p l e ({ frames := fr, cells := mc, slots := ms, locals := lo } : Room) s m args below meth c H locs mc ms Q (F0 m pc ls [.int x])) →
      (∀ (H : Heap) (locs : List Loc) (pc : Nat) (ls : Array Slot) (rest : List Value) (cells slots : Nat) (E : String) (ce : Cell) (q9 : Addr) (n : Nat) (σ' : Cs), IU D J o Ld z G e0 Ur N s H locs σ' → out = .inr (n, σ') → E = exN n → H[q9]? = some ce → ce.vm = .none → s.vm.findClass E = some ce.cls → cells ≤ mc → slots ≤ ms → vx_W p l e ({ frames := fr, cells := mc, slots := ms, locals := lo } : Room) s m args below meth c H locs cells slots Q (F0 m pc ls rest) q9) →
      (∀ (H : Heap) (locs : List Loc) (pc : Nat) (ls : Array Slot) (cells slots : Nat) (i ik ic : Nat) (names : List String) (σ' : Cs), IU D J o Ld z G e0 Ur N s H locs σ' → out = .inr (i, σ') → ls.size = nL → (Cond.classLink y.cls ik (exN i)).before args s = true → (Cond.initialized (exN i)).before args s = true → (∀ w ∈ vx_at0 y.cls ic (exN i) names, w.before args s = true) → (∀ w ∈ Cond.classLink y.cls ik (exN i) :: Cond.initialized (exN i) :: vx_at0 y.cls ic (exN i) names, vx_ot w = true) → Bundle.fit (exN i) = true → (∀ n ∈ names, Bundle.fit n = true) → decode cd pc = .ok (.new ik, 3) → decode cd (pc + 3) = .ok (.dup, 1) → decode cd (pc + 4) = .ok (.invokespecial ic, 3) → decode cd (pc + 7) = .ok (.athrow, 1) → names.length + 3 < fr → 13 * (names.length + 1) + 42 ≤ lo → cells + 1 ≤ mc → slots + 6 ≤ ms → W p l e ({ frames := fr, cells := mc, slots := ms, locals := lo } : Room) s m args below meth c H locs cells slots Q (F0 m pc ls [])) →
      IU D J o Ld z G e0 Ur N s s.heap [] σ → lv_has ls nL (lv_args 0 (As o aK aF)) → W p l e ({ frames := fr, cells := mc, slots := ms, locals := lo } : Room) s m args below meth c s.heap [] 0 0 Q (F0 m 0 ls [])) : CYi y cd nL (some .boolean) fr lo mc ms Λ Λn As out σ := by
  intro l D J o z aK aV G Ld aF e0 mi Ur N hst
  refine vx_ofW (cc := cd) (maxL := nL) (ret := some .boolean) hy rfl ?_
  intro p e s m args below meth c s₁ B hml htab hv
  obtain ⟨rfl, ⟨hN, hP, hU0⟩, ⟨⟨hE, hT⟩, hEU⟩, hUR⟩ := hv
  have hts := atoms_spec (ws := ws_ y cd nL (some .boolean)) B.pre
  have hts : ∀ w ∈ lw_all, w.before _ s = true := fun w h => hts w (List.mem_cons_of_mem _ h)
  have hl := lv_entry (As o aK aF) (n := nL) (hlen o aK aF)
  rw [lg_entry_eq]
  generalize (lg_sl (As o aK aF) ++ List.replicate (nL - (lg_sl (As o aK aF)).length) Slot.unset).toArray = ls at hl ⊢
  have hown := findClass_of_methodNamed B.named
  refine body p l e s m _ below meth c D J o z aK aV G Ld aF e0 mi Ur N _ ls hst B.exec B.bytes hml hown hts hE hT hEU (fun H locs pc ls x σ' hI ho h01 hdg => vx_ret ?_) (fun H locs pc ls rest cells slots E ce q9 n σ' hI ho hn h1 h2 h3 hc hs => ?_) (fun H locs pc ls cells slots i ik ic names σ' hI ho hls hk hini hat hgood hfit hfits d0 d3 d4 d7 hfr hlo hc hs => ?_) ⟨hP, va_S.rf, hU0.mono (fun q h => Or.inl h), hUR, hN⟩ hl
  · exact W.zret B.exec B.bytes B.returns (zb_n h01) (fun t ht hW => ⟨⟨x, σ', rfl, ho, by show PC D J o Ld σ' t.heap ∧ UP D J o Ld e0 _ σ' t.heap; rw [ht]; exact ⟨hI.1, hI.2.2.1⟩⟩, hI.2.1.F ht⟩) hI.2.1.2.2 hdg B.notSynchronized
  · exact vx_out (fun x hx => (htab x hx).elim) B.notSynchronized h1 h2 h3 (fun t ht _ => ⟨(n, σ'), ho, ⟨hn, by rw [ht]; exact ⟨hI.1, hI.2.2.1⟩⟩, hI.2.1.F ht⟩) hI.2.1.2.2 hc hs
  · exact vx_throw0 (A := zZ z) (names := names) B.exec B.bytes hst hown hfit hfits hk hini hat hgood hT.2.2.1 hT.2.2.2 (hI.zS hE) (by rw [hls, hml]) d0 d3 d4 d7 (fun x hx => (htab x hx).elim) hfr (by simpa using hlo) hc hs B.notSynchronized (fun t _ hz hq => ⟨(i, σ'), ho, ⟨rfl, hI.1.kept (fun q h1 _ => hq q h1), hI.2.2.1.kept (fun q h1 _ => hq q h1)⟩, ⟨Nat.le_trans hI.2.1.1 hz, fun q h1 h2 => (hq q (Nat.lt_of_lt_of_le h1 hI.2.1.1)).trans (hI.2.1.2.1 q h1 h2)⟩⟩) hI.2.1.2.2 hc hs

section UCALLS
variable {p : Program} {l : Launch} {e : Env} {R : Room} {s : State} {m : MethodId} {args : Array Value} {below : List Frame} {meth : Method} {c : Code} {H : Heap} {locs : List Loc} {cells slots : Nat} {Q : State → Prop}
variable {cc : ByteArray} {pc : Nat} {ls : Array Slot} {rest : List Value} {D : va_G} {J : Nat → ClassId} {o z : Nat} {aK aV : Nat → Nat} {G Ld Ur : Nat → Prop} {e0 NZ : Nat} {aF : Nat → Nat} {Λ : Nat → Nat → (Nat → Int32) → Int32} {Λn : Nat → Int32} {σ σ' : Cs}

theorem uccallI (hx : p.tables.exec = Jvm.exec) (hb : c.code = cc) (hts : ∀ w ∈ lw_all, w.before args s = true) {own : String} (hown : s.vm.findClass own = some m.cls) (hE : ECC D J o z aK aV G Ld aF Λ Λn s) (hI : IU D J o Ld z G e0 Ur NZ s H locs σ) {nL : Nat} (hml : c.maxLocals = nL) (hlsz : ls.size = nL)
    {y : MethodName} {cd : ByteArray} {nL' fr lo n index b ci N : Nat} {fs : List Value} {C : String} {T : u_T} {ret : Option FieldType} {As : Nat → (Nat → Nat) → (Nat → Nat) → List Value} {As' : List Value} {r : Int32} (hM : CMi y cd nL' ret fr lo Λ Λn As r σ σ') (cwl : CallW R s args own C index y cd nL' ret (ws_ y cd nL' ret) ({ frames := fr, cells := 0, slots := 0, locals := lo }) 0 0 n) (hat : va_at D vwC (b, .inr (ci, fs)) H) (hcl : vwC[ci]? = some (C, T, N)) (hAs : As o aK aF = .ref b :: As')
    (hc : cells ≤ R.cells ∧ slots ≤ R.slots) (hn : As'.length = n) {st : List Value} (hst : st = As'.reverse ++ .ref b :: rest) (hW : 2 * (F0 m pc ls st).monitorRoom + (rest.map fun v => v.category).sum ≤ 8) (hdg : decode cc pc = .ok (.invokevirtual index, 3))
    (kk : ∀ (H1 : Heap) (locs1 : List Loc), IU D J o Ld z G e0 Ur NZ s H1 locs1 (uk σ σ') → W p l e R s m args below meth c H1 locs1 cells slots Q (F0 m (pc + 3) ls (.int r :: rest))) : W p l e R s m args below meth c H locs cells slots Q (F0 m pc ls st) := by
  have hM := hM l D J o z aK aV G Ld aF
  rw [hAs] at hM
  refine va_calli (va_runV (As := As') (rest := rest) ⟨hx, hb, hml, hown, hts⟩ hM cwl ⟨fun a U g mk q => ?_, g_recv hE.1.1 hat hcl, fun U hU hW => ⟨rfl, by rw [hU]; exact hI.1, hI.envC hE hU hW⟩⟩ rfl hn hlsz hst hW hdg ⟨hc.1, hc.2⟩) hI.2.1 (fun q _ h => Or.inl h) (fun q h => Or.inl h) (fun r' u t H1 locs1 ht hvm hp hB hz1 hk1 hS => ?_)
  · obtain ⟨q0, qP, qE⟩ := q
    exact ⟨q0, qP, qE.go (State.WarmedH.refl U) (fun _ _ _ => rfl)⟩
  · have hr' : r' = r := hp
    subst hr'
    exact kk H1 locs1 (hI.call (by rw [← ht]; exact hB) hk1 hS)

theorem uccallV (hx : p.tables.exec = Jvm.exec) (hb : c.code = cc) (hts : ∀ w ∈ lw_all, w.before args s = true) {own : String} (hown : s.vm.findClass own = some m.cls) (hE : ECC D J o z aK aV G Ld aF Λ Λn s) (hI : IU D J o Ld z G e0 Ur NZ s H locs σ) {nL : Nat} (hml : c.maxLocals = nL) (hlsz : ls.size = nL)
    {y : MethodName} {cd : ByteArray} {nL' fr lo n index b ci N : Nat} {fs : List Value} {C : String} {T : u_T} {ret : Option FieldType} {As : Nat → (Nat → Nat) → (Nat → Nat) → List Value} {As' : List Value} (hM : CMv y cd nL' ret fr lo Λ Λn As σ σ') (cwl : CallW R s args own C index y cd nL' ret (ws_ y cd nL' ret) ({ frames := fr, cells := 0, slots := 0, locals := lo }) 0 0 n) (hat : va_at D vwC (b, .inr (ci, fs)) H) (hcl : vwC[ci]? = some (C, T, N)) (hAs : As o aK aF = .ref b :: As')
    (hc : cells ≤ R.cells ∧ slots ≤ R.slots) (hn : As'.length = n) {st : List Value} (hst : st = As'.reverse ++ .ref b :: rest) (hW : 2 * (F0 m pc ls st).monitorRoom + (rest.map fun v => v.category).sum ≤ 8) (hdg : decode cc pc = .ok (.invokevirtual index, 3))
    (kk : ∀ (H1 : Heap) (locs1 : List Loc), IU D J o Ld z G e0 Ur NZ s H1 locs1 (uk σ σ') → W p l e R s m args below meth c H1 locs1 cells slots Q (F0 m (pc + 3) ls (rest))) : W p l e R s m args below meth c H locs cells slots Q (F0 m pc ls st) := by
  have hM := hM l D J o z aK aV G Ld aF
  rw [hAs] at hM
  refine va_callv (va_runV (As := As') (rest := rest) ⟨hx, hb, hml, hown, hts⟩ hM cwl ⟨fun a U g mk q => ?_, g_recv hE.1.1 hat hcl, fun U hU hW => ⟨rfl, by rw [hU]; exact hI.1, hI.envC hE hU hW⟩⟩ rfl hn hlsz hst hW hdg ⟨hc.1, hc.2⟩) hI.2.1 (fun q _ h => Or.inl h) (fun q h => Or.inl h) (fun u t H1 locs1 ht hvm hp hB hz1 hk1 hS => ?_)
  · obtain ⟨q0, qP, qE⟩ := q
    exact ⟨q0, qP, qE.go (State.WarmedH.refl U) (fun _ _ _ => rfl)⟩
  · exact kk H1 locs1 (hI.call (by rw [← ht]; exact hB) hk1 hS)

theorem uccallR (hx : p.tables.exec = Jvm.exec) (hb : c.code = cc) (hts : ∀ w ∈ lw_all, w.before args s = true) {own : String} (hown : s.vm.findClass own = some m.cls) (hE : ECC D J o z aK aV G Ld aF Λ Λn s) (hI : IU D J o Ld z G e0 Ur NZ s H locs σ) {nL : Nat} (hml : c.maxLocals = nL) (hlsz : ls.size = nL)
    {y : MethodName} {cd : ByteArray} {nL' fr lo n index b ci N : Nat} {fs : List Value} {C : String} {T : u_T} {ret : Option FieldType} {As : Nat → (Nat → Nat) → (Nat → Nat) → List Value} {As' : List Value} {r : Nat → Nat} (hM : CMr y cd nL' ret fr lo Λ Λn As r σ σ') (cwl : CallW R s args own C index y cd nL' ret (ws_ y cd nL' ret) ({ frames := fr, cells := 0, slots := 0, locals := lo }) 0 0 n) (hat : va_at D vwC (b, .inr (ci, fs)) H) (hcl : vwC[ci]? = some (C, T, N)) (hAs : As o aK aF = .ref b :: As')
    (hc : cells ≤ R.cells ∧ slots ≤ R.slots) (hn : As'.length = n) {st : List Value} (hst : st = As'.reverse ++ .ref b :: rest) (hW : 2 * (F0 m pc ls st).monitorRoom + (rest.map fun v => v.category).sum ≤ 8) (hdg : decode cc pc = .ok (.invokevirtual index, 3))
    (kk : ∀ (H1 : Heap) (locs1 : List Loc), IU D J o Ld z G e0 Ur NZ s H1 locs1 (uk σ σ') → W p l e R s m args below meth c H1 locs1 cells slots Q (F0 m (pc + 3) ls (.ref (r o) :: rest))) : W p l e R s m args below meth c H locs cells slots Q (F0 m pc ls st) := by
  have hM := hM l D J o z aK aV G Ld aF
  rw [hAs] at hM
  refine va_callr (va_runV (As := As') (rest := rest) ⟨hx, hb, hml, hown, hts⟩ hM cwl ⟨fun a U g mk q => ?_, g_recv hE.1.1 hat hcl, fun U hU hW => ⟨rfl, by rw [hU]; exact hI.1, hI.envC hE hU hW⟩⟩ rfl hn hlsz hst hW hdg ⟨hc.1, hc.2⟩) hI.2.1 (fun q _ h => Or.inl h) (fun q h => Or.inl h) (fun a u t H1 locs1 ht hvm hp hB hz1 hk1 hS => ?_)
  · obtain ⟨q0, qP, qE⟩ := q
    exact ⟨q0, qP, qE.go (State.WarmedH.refl U) (fun _ _ _ => rfl)⟩
  · obtain ⟨ha, hB⟩ := hB
    subst ha
    exact kk H1 locs1 (hI.call (by rw [← ht]; exact hB) hk1 hS)

theorem ucworldI (hx : p.tables.exec = Jvm.exec) (hb : c.code = cc) (hts : ∀ w ∈ lw_all, w.before args s = true) {own : String} (hown : s.vm.findClass own = some m.cls) (hE : ECC D J o z aK aV G Ld aF Λ Λn s) (hI : IU D J o Ld z G e0 Ur NZ s H locs σ) {nL : Nat} (hml : c.maxLocals = nL) (hlsz : ls.size = nL)
    {y : MethodName} {cd : ByteArray} {nL' fr lo n index k : Nat} {ret : Option FieldType} {As : (Nat → Nat) → List Value} {w' : Mm} {r : Int32} (hM : WMi y cd nL' ret fr lo As r (cw σ k) w') (hk : k < 5) (cwl : CallW R s args own RX2 index y cd nL' ret (ws_ y cd nL' ret) ({ frames := fr, cells := 0, slots := 0, locals := lo }) 0 0 n) (hσ : some (cwu σ k w') = some σ')
    (hc : cells ≤ R.cells ∧ slots ≤ R.slots) (hn : (As aK).length = n) {st : List Value} (hst : st = (As aK).reverse ++ .ref (wA o k) :: rest) (hW : 2 * (F0 m pc ls st).monitorRoom + (rest.map fun v => v.category).sum ≤ 8) (hdg : decode cc pc = .ok (.invokevirtual index, 3))
    (kk : ∀ (H1 : Heap) (locs1 : List Loc), IU D J o Ld z G e0 Ur NZ s H1 locs1 σ' → W p l e R s m args below meth c H1 locs1 cells slots Q (F0 m (pc + 3) ls (.int r :: rest))) : W p l e R s m args below meth c H locs cells slots Q (F0 m pc ls st) := by
  cases hσ
  refine va_calli (va_runV (As := As aK) (rest := rest) ⟨hx, hb, hml, hown, hts⟩ (hM l D J (wA o k) z (cl σ k) aK aV (Nat.le_trans hE.2.2.1 (Nat.le_add_right _ _))) cwl ⟨fun a U g mk q => ?_, g_recv hE.1.1 (hI.1.w k hk 0 rfl) rfl, fun U hU hW => ⟨rfl, by rw [hU]; exact hI.1.1 k hk, (hI.envC hE hU hW).1⟩⟩ rfl hn hlsz hst hW hdg ⟨hc.1, hc.2⟩) hI.2.1 (fun q _ h => Or.inl (rW_rC hk q h)) (fun q h => Or.inl (rW_rC hk q h)) (fun r' u t H1 locs1 ht hvm hp hB hz1 hk1 hS => ?_)
  · obtain ⟨q0, qP, qE⟩ := q
    exact ⟨q0, qP, qE.go (State.WarmedH.refl U) (fun _ _ _ => rfl)⟩
  · have hr' : r' = r := hp
    subst hr'
    exact kk H1 locs1 (hI.by (hI.1.setW hk (by rw [show cw (cwu σ k w') k = w' from if_pos rfl, ← ht]; exact hB) hk1 (fun i hi => ⟨if_neg hi, rfl⟩) ⟨rfl, rfl⟩ (fun a ha => hI.1.2.2 k hk a ha)) (uSame_w hk) (fun q h1 h2 => hk1 q h1 (fun h => h2 (rW_rC hk q h))) hS)

theorem ucworldV (hx : p.tables.exec = Jvm.exec) (hb : c.code = cc) (hts : ∀ w ∈ lw_all, w.before args s = true) {own : String} (hown : s.vm.findClass own = some m.cls) (hE : ECC D J o z aK aV G Ld aF Λ Λn s) (hI : IU D J o Ld z G e0 Ur NZ s H locs σ) {nL : Nat} (hml : c.maxLocals = nL) (hlsz : ls.size = nL)
    {y : MethodName} {cd : ByteArray} {nL' fr lo n index k : Nat} {ret : Option FieldType} {As : (Nat → Nat) → List Value} {w' : Mm} (hM : WMv y cd nL' ret fr lo As (cw σ k) w') (hk : k < 5) (cwl : CallW R s args own RX2 index y cd nL' ret (ws_ y cd nL' ret) ({ frames := fr, cells := 0, slots := 0, locals := lo }) 0 0 n) (hσ : some (cwu σ k w') = some σ')
    (hc : cells ≤ R.cells ∧ slots ≤ R.slots) (hn : (As aK).length = n) {st : List Value} (hst : st = (As aK).reverse ++ .ref (wA o k) :: rest) (hW : 2 * (F0 m pc ls st).monitorRoom + (rest.map fun v => v.category).sum ≤ 8) (hdg : decode cc pc = .ok (.invokevirtual index, 3))
    (kk : ∀ (H1 : Heap) (locs1 : List Loc), IU D J o Ld z G e0 Ur NZ s H1 locs1 σ' → W p l e R s m args below meth c H1 locs1 cells slots Q (F0 m (pc + 3) ls (rest))) : W p l e R s m args below meth c H locs cells slots Q (F0 m pc ls st) := by
  cases hσ
  refine va_callv (va_runV (As := As aK) (rest := rest) ⟨hx, hb, hml, hown, hts⟩ (hM l D J (wA o k) z (cl σ k) aK aV (Nat.le_trans hE.2.2.1 (Nat.le_add_right _ _))) cwl ⟨fun a U g mk q => ?_, g_recv hE.1.1 (hI.1.w k hk 0 rfl) rfl, fun U hU hW => ⟨rfl, by rw [hU]; exact hI.1.1 k hk, (hI.envC hE hU hW).1⟩⟩ rfl hn hlsz hst hW hdg ⟨hc.1, hc.2⟩) hI.2.1 (fun q _ h => Or.inl (rW_rC hk q h)) (fun q h => Or.inl (rW_rC hk q h)) (fun u t H1 locs1 ht hvm hp hB hz1 hk1 hS => ?_)
  · obtain ⟨q0, qP, qE⟩ := q
    exact ⟨q0, qP, qE.go (State.WarmedH.refl U) (fun _ _ _ => rfl)⟩
  · exact kk H1 locs1 (hI.by (hI.1.setW hk (by rw [show cw (cwu σ k w') k = w' from if_pos rfl, ← ht]; exact hB) hk1 (fun i hi => ⟨if_neg hi, rfl⟩) ⟨rfl, rfl⟩ (fun a ha => hI.1.2.2 k hk a ha)) (uSame_w hk) (fun q h1 h2 => hk1 q h1 (fun h => h2 (rW_rC hk q h))) hS)

theorem uxcallS (hx : p.tables.exec = Jvm.exec) (hb : c.code = cc) (hts : ∀ w ∈ lw_all, w.before args s = true) (hst : l.stackTraces = false) {own : String} (hown : s.vm.findClass own = some m.cls) (hE : ECC D J o z aK aV G Ld aF Λ Λn s) (hT : ThrE z s) (hI : IU D J o Ld z G e0 Ur NZ s H locs σ) {nL : Nat} (hml : c.maxLocals = nL) (hlsz : ls.size = nL)
    {y : MethodName} {cd : ByteArray} {nL' fr lo n index : Nat} {As : List Value} {out : Option Nat} (hM : SXn y cd nL' fr lo As out) (cwl : CallB R s args own index y cd nL' none (ws_ y cd nL' none) ({ frames := fr, cells := 1, slots := 6, locals := lo }) 1 6 n ∧ (Cond.static y).before args s = true)
    (hc : cells + 1 ≤ R.cells ∧ slots + 6 ≤ R.slots) (hn : As.length = n) {st : List Value} (hst0 : st = As.reverse ++ rest) (hW : 2 * (F0 m pc ls st).monitorRoom + (rest.map fun v => v.category).sum ≤ 8) (hdg : decode cc pc = .ok (.invokestatic index, 3))
    (kx : ∀ (E : String) (ce : Cell) (q9 : Addr) (n : Nat) (H1 : Heap) (locs1 : List Loc), out = some n → E = exN n → IU D J o Ld z G e0 Ur NZ s H1 locs1 σ → H1[q9]? = some ce → ce.vm = .none → s.vm.findClass E = some ce.cls → vx_W p l e R s m args below meth c H1 locs1 (cells + 1) (slots + 6) Q (F0 m pc ls rest) q9)
    (kk : out = none → ∀ (H1 : Heap) (locs1 : List Loc), IU D J o Ld z G e0 Ur NZ s H1 locs1 σ → W p l e R s m args below meth c H1 locs1 (cells + 1) (slots + 6) Q (F0 m (pc + 3) ls rest)) : W p l e R s m args below meth c H locs cells slots Q (F0 m pc ls st) := by
  refine vx_callv (vx_runS (As := As) (rest := rest) ⟨hx, hb, hml, hown, hts⟩ (hM l z hst) cwl ⟨fun a U g mk q => ⟨q.1, q.2.go (State.WarmedH.refl U) (fun _ _ _ => rfl)⟩, fun U hU hW => ⟨rfl, hI.envT hT hU hW⟩⟩ rfl hn hlsz hst0 hW hdg ⟨hc.1, hc.2⟩) hI.2.1 (fun q _ h => h.elim) (fun q h => h.elim) (fun q _ h => h.elim) (fun E ce q9 u t H1 locs1 ht hvm hp hB hz1 hk1 hS h1 h2 h3 => ?_) (fun u t H1 locs1 ht hvm hp hB hz1 hk1 hS => ?_)
  · exact kx E ce q9 u H1 locs1 hp hB (hI.by (hI.1.kept (fun q hq _ => hk1 q hq (fun h => h))) ⟨rfl, fun _ => ⟨rfl, rfl⟩⟩ (fun q hq _ => hk1 q hq (fun h => h)) hS) h1 h2 h3
  · exact kk hp H1 locs1 (hI.by (hI.1.kept (fun q hq _ => hk1 q hq (fun h => h))) ⟨rfl, fun _ => ⟨rfl, rfl⟩⟩ (fun q hq _ => hk1 q hq (fun h => h)) hS)
theorem uxcallI (hx : p.tables.exec = Jvm.exec) (hb : c.code = cc) (hts : ∀ w ∈ lw_all, w.before args s = true) (hst : l.stackTraces = false) {own : String} (hown : s.vm.findClass own = some m.cls) (hE : ECC D J o z aK aV G Ld aF Λ Λn s) (hT : ThrE z s) (hI : IU D J o Ld z G e0 Ur NZ s H locs σ) {nL : Nat} (hml : c.maxLocals = nL) (hlsz : ls.size = nL)
    {y : MethodName} {cd : ByteArray} {nL' fr lo mc ms n index b ci N : Nat} {fs : List Value} {C : String} {T : u_T} {ret : Option FieldType} {As : Nat → (Nat → Nat) → (Nat → Nat) → List Value} {As' : List Value} {out : Xo} (hM : CXi y cd nL' ret fr lo mc ms Λ Λn As out σ) (cwl : CallW R s args own C index y cd nL' ret (ws_ y cd nL' ret) ({ frames := fr, cells := mc, slots := ms, locals := lo }) mc ms n) (hat : va_at D vwC (b, .inr (ci, fs)) H) (hcl : vwC[ci]? = some (C, T, N)) (hAs : As o aK aF = .ref b :: As')
    (hc : cells + mc ≤ R.cells ∧ slots + ms ≤ R.slots) (hn : As'.length = n) {st : List Value} (hst0 : st = As'.reverse ++ .ref b :: rest) (hW : 2 * (F0 m pc ls st).monitorRoom + (rest.map fun v => v.category).sum ≤ 8) (hdg : decode cc pc = .ok (.invokevirtual index, 3))
    (kx : ∀ (E : String) (ce : Cell) (q9 : Addr) (n : Nat) (σ' : Cs) (H1 : Heap) (locs1 : List Loc), out = .inr (n, σ') → E = exN n → IU D J o Ld z G e0 Ur NZ s H1 locs1 (uk σ σ') → H1[q9]? = some ce → ce.vm = .none → s.vm.findClass E = some ce.cls → vx_W p l e R s m args below meth c H1 locs1 (cells + mc) (slots + ms) Q (F0 m pc ls rest) q9)
    (kk : ∀ (v : Int32 × Cs) (H1 : Heap) (locs1 : List Loc), out = .inl v → IU D J o Ld z G e0 Ur NZ s H1 locs1 (uk σ v.2) → W p l e R s m args below meth c H1 locs1 (cells + mc) (slots + ms) Q (F0 m (pc + 3) ls (.int v.1 :: rest))) : W p l e R s m args below meth c H locs cells slots Q (F0 m pc ls st) := by
  have hM := hM l D J o z aK aV G Ld aF hst
  rw [hAs] at hM
  refine vx_calli (vx_runV (As := As') (rest := rest) ⟨hx, hb, hml, hown, hts⟩ hM cwl ⟨fun a U g mk q => ?_, g_recv hE.1.1 hat hcl, fun U hU hW => ⟨rfl, by rw [hU]; exact hI.1, ⟨hI.envC hE hU hW, hI.envT hT hU hW⟩⟩⟩ rfl hn hlsz hst0 hW hdg ⟨hc.1, hc.2⟩) hI.2.1 (fun q _ h => Or.inl h) (fun q h => Or.inl h) (fun q _ h => Or.inl h) (fun E ce q9 u t H1 locs1 ht hvm hp hB hz1 hk1 hS h1 h2 h3 => ?_) (fun r u t H1 locs1 ht hvm hp hB hz1 hk1 hS => ?_)
  · obtain ⟨q0, qP, qE⟩ := q
    exact ⟨q0, qP, qE.go (State.WarmedH.refl U) (fun _ _ _ => rfl)⟩
  · exact kx E ce q9 u.1 u.2 H1 locs1 hp hB.1 (hI.call (by rw [← ht]; exact hB.2) hk1 hS) h1 h2 h3
  · exact kk (r, u) H1 locs1 hp (hI.call (by rw [← ht]; exact hB) hk1 hS)
theorem uxcallV (hx : p.tables.exec = Jvm.exec) (hb : c.code = cc) (hts : ∀ w ∈ lw_all, w.before args s = true) (hst : l.stackTraces = false) {own : String} (hown : s.vm.findClass own = some m.cls) (hE : ECC D J o z aK aV G Ld aF Λ Λn s) (hT : ThrE z s) (hI : IU D J o Ld z G e0 Ur NZ s H locs σ) {nL : Nat} (hml : c.maxLocals = nL) (hlsz : ls.size = nL)
    {y : MethodName} {cd : ByteArray} {nL' fr lo mc ms n index b ci N : Nat} {fs : List Value} {C : String} {T : u_T} {ret : Option FieldType} {As : Nat → (Nat → Nat) → (Nat → Nat) → List Value} {As' : List Value} {out : Xo} (hM : CXv y cd nL' ret fr lo mc ms Λ Λn As out σ) (cwl : CallW R s args own C index y cd nL' ret (ws_ y cd nL' ret) ({ frames := fr, cells := mc, slots := ms, locals := lo }) mc ms n) (hat : va_at D vwC (b, .inr (ci, fs)) H) (hcl : vwC[ci]? = some (C, T, N)) (hAs : As o aK aF = .ref b :: As')
    (hc : cells + mc ≤ R.cells ∧ slots + ms ≤ R.slots) (hn : As'.length = n) {st : List Value} (hst0 : st = As'.reverse ++ .ref b :: rest) (hW : 2 * (F0 m pc ls st).monitorRoom + (rest.map fun v => v.category).sum ≤ 8) (hdg : decode cc pc = .ok (.invokevirtual index, 3))
    (kx : ∀ (E : String) (ce : Cell) (q9 : Addr) (n : Nat) (σ' : Cs) (H1 : Heap) (locs1 : List Loc), out = .inr (n, σ') → E = exN n → IU D J o Ld z G e0 Ur NZ s H1 locs1 (uk σ σ') → H1[q9]? = some ce → ce.vm = .none → s.vm.findClass E = some ce.cls → vx_W p l e R s m args below meth c H1 locs1 (cells + mc) (slots + ms) Q (F0 m pc ls rest) q9)
    (kk : ∀ (v : Int32 × Cs) (H1 : Heap) (locs1 : List Loc), out = .inl v → IU D J o Ld z G e0 Ur NZ s H1 locs1 (uk σ v.2) → W p l e R s m args below meth c H1 locs1 (cells + mc) (slots + ms) Q (F0 m (pc + 3) ls rest)) : W p l e R s m args below meth c H locs cells slots Q (F0 m pc ls st) := by
  have hM := hM l D J o z aK aV G Ld aF hst
  rw [hAs] at hM
  refine vx_callv (vx_runV (As := As') (rest := rest) ⟨hx, hb, hml, hown, hts⟩ hM cwl ⟨fun a U g mk q => ?_, g_recv hE.1.1 hat hcl, fun U hU hW => ⟨rfl, by rw [hU]; exact hI.1, ⟨hI.envC hE hU hW, hI.envT hT hU hW⟩⟩⟩ rfl hn hlsz hst0 hW hdg ⟨hc.1, hc.2⟩) hI.2.1 (fun q _ h => Or.inl h) (fun q h => Or.inl h) (fun q _ h => Or.inl h) (fun E ce q9 u t H1 locs1 ht hvm hp hB hz1 hk1 hS h1 h2 h3 => ?_) (fun u t H1 locs1 ht hvm hp hB hz1 hk1 hS => ?_)
  · obtain ⟨q0, qP, qE⟩ := q
    exact ⟨q0, qP, qE.go (State.WarmedH.refl U) (fun _ _ _ => rfl)⟩
  · exact kx E ce q9 u.1 u.2 H1 locs1 hp hB.1 (hI.call (by rw [← ht]; exact hB.2) hk1 hS) h1 h2 h3
  · exact kk (0, u) H1 locs1 hp (hI.call (by rw [← ht]; exact hB) hk1 hS)
end UCALLS
theorem uclikens {p : Program} {l : Launch} {e : Env} {R : Room} {s : State} {m : MethodId} {args : Array Value} {below : List Frame} {meth : Method} {c : Code} {H : Heap} {locs : List Loc} {cells slots : Nat} {Q : State → Prop} {cc : ByteArray} {pc : Nat} {ls : Array Slot} {rest : List Value} {D : va_G} {J : Nat → ClassId} {o z : Nat} {aK aV : Nat → Nat} {G Ld Ur : Nat → Prop} {e0 NZ : Nat} {aF : Nat → Nat} {Λ : Nat → Nat → (Nat → Int32) → Int32} {Λn : Nat → Int32} {σ σ' : Cs} (hx : p.tables.exec = Jvm.exec) (hb : c.code = cc) (hts : ∀ w ∈ lw_all, w.before args s = true) (hown : s.vm.findClass RX1 = some m.cls) (hE : ECC D J o z aK aV G Ld aF Λ Λn s) (hI : IU D J o Ld z G e0 Ur NZ s H locs σ) {nL : Nat} (hml : c.maxLocals = nL) (hlsz : ls.size = nL) {i j : Nat} (hi : i < 5) (hj : j < 5) (hij : ¬ i = j) (hk : clk σ i j = some σ')
    (hR : 3 + 1 ≤ R.frames ∧ 300 ≤ R.locals) (hcs : cells ≤ R.cells ∧ slots ≤ R.slots) (hW : 2 * (F0 m pc ls (.ref (wA o j) :: .ref (wA o i) :: rest)).monitorRoom + (rest.map fun v => v.category).sum ≤ 8) (hdg : decode cc pc = .ok (.invokevirtual 237, 3))
    (kk : ∀ (H1 : Heap) (locs1 : List Loc), IU D J o Ld z G e0 Ur NZ s H1 locs1 σ' → W p l e R s m args below meth c H1 locs1 cells slots Q (F0 m (pc + 3) ls (.ref (wA o i) :: rest))) : W p l e R s m args below meth c H locs cells slots Q (F0 m pc ls (.ref (wA o j) :: .ref (wA o i) :: rest)) := by
  unfold clk at hk
  by_cases hz : okZ 6 (cw σ j 14) = true ∧ okZ 8 (cw σ j 15) = true
  · rw [if_pos hz] at hk
    cases hk
    have hap := wOf_apart i hi j hj hij
    have hM := mX2_likens l D J z aK aV (wA o i) (wA o j) (cl σ i) (cl σ j) (cw σ i) (cw σ j) (Nat.le_trans hE.2.2.1 (Nat.le_add_right _ _)) (by simp only [wA]; omega) hz.1 hz.2
    refine va_callr (va_runV (As := [.ref (wA o j)]) (rest := rest) ⟨hx, hb, hml, hown, hts⟩ hM (cwX2_likens_X1 hts ⟨hR.1, Nat.le_trans (Nat.le_of_ble_eq_true rfl) hR.2⟩) ⟨fun a U g mk q => ?_, g_recv hE.1.1 (hI.1.w i hi 0 rfl) rfl, fun U hU hW => ⟨rfl, by rw [hU]; exact ⟨hI.1.1 i hi, hI.1.1 j hj⟩, (hI.envC hE hU hW).1⟩⟩ rfl rfl hlsz rfl hW hdg hcs) hI.2.1 (fun q _ h => Or.inl (rW_rC hi q h)) (fun q h => Or.inl (rW_rC hi q h)) (fun u ra t H1 locs1 ht hvm hp hB hz1 hk1 hS => ?_)
    · obtain ⟨q0, qP, qE⟩ := q
      exact ⟨q0, qP, qE.go (State.WarmedH.refl U) (fun _ _ _ => rfl)⟩
    · obtain ⟨ha, hB⟩ := hB
      subst ha
      refine kk H1 locs1 (hI.by (hI.1.setW hi ?_ hk1 (fun q hq => ⟨if_neg hq, if_neg hq⟩) ⟨rfl, rfl⟩ (fun a ha => hI.1.2.2 j hj a ?_)) (uSame_l hi) (fun q h1 h2 => hk1 q h1 (fun h => h2 (rW_rC hi q h))) hS)
      · rw [show cw (clu (cwu σ i (cw σ j)) i (cl σ j)) i = cw σ j from if_pos rfl, show cl (clu (cwu σ i (cw σ j)) i (cl σ j)) i = cl σ j from if_pos rfl, ← ht]
        exact hB
      · exact (show cl (clu (cwu σ i (cw σ j)) i (cl σ j)) i = cl σ j from if_pos rfl) ▸ ha
  · rw [if_neg hz] at hk
    cases hk
