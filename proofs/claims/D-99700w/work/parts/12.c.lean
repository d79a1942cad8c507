/-! THE LAW AS OBJECTS: G says which cells are a law's; aF: the constants of Fact (0..6) and Kind (7..9) -/
def sumI : Nat → (Nat → Int32) → Int32
  | 0, _ => 0
  | n + 1, f => sumI n f + f n
def PartAt (D : va_G) (G : Nat → Prop) (aF : Nat → Nat) (q : Nat) (g : (Nat → Int32) → Int32) (H : Heap) : Prop := G q ∧ ((∃ n : Int32, va_at D vwC (q, .inr (13, [.int n, .null])) H ∧ g = fun _ => n) ∨ ∃ (n : Int32) (i : Nat), i < 7 ∧ va_at D vwC (q, .inr (13, [.int n, .ref (aF i)])) H ∧ g = fun s => s i)
def ListAt (D : va_G) (J : Nat → ClassId) (G : Nat → Prop) (q n : Nat) (els : Nat → Nat) (H : Heap) : Prop := G q ∧ ∃ (mc : Int32) (arr cap : Nat) (f : Nat → Option Nat), G arr ∧ va_at D vwC (q, .inr (6, [.int mc, .ref arr, .int (nI n)])) H ∧ va_at D vwC (arr, .inl (J 4, cap, .inr (.inr (.inr (.inr f))))) H ∧ n ≤ cap ∧ cap < 2 ^ 31 ∧ ∀ i, i < n → f i = some (els i)
def SumAt (D : va_G) (J : Nat → ClassId) (G : Nat → Prop) (aF : Nat → Nat) (q : Nat) (f : (Nat → Int32) → Int32) (H : Heap) : Prop := G q ∧ ∃ (lst n : Nat) (els : Nat → Nat) (gs : Nat → (Nat → Int32) → Int32), va_at D vwC (q, .inr (12, [.ref lst])) H ∧ ListAt D J G lst n els H ∧ (∀ i, i < n → PartAt D G aF (els i) (gs i) H) ∧ f = fun s => sumI n (fun i => gs i s)
def rowV (all : Int32) (n : Nat) (h : Nat → Int32) : Int32 := if ∀ i, i < n → h i = all then all else if all = 0 then 1 else 0
def CondAt (D : va_G) (J : Nat → ClassId) (G : Nat → Prop) (aF : Nat → Nat) : Nat → Nat → ((Nat → Int32) → Int32) → Heap → Prop
  | 0, _, _, _ => False
  | d + 1, q, f, H => G q ∧ ((∃ b : Int32, (b = 0 ∨ b = 1) ∧ va_at D vwC (q, .inr (11, [.int b])) H ∧ f = fun s => if b = 0 then s 8 else s 7) ∨ (∃ (a : Nat) (g : (Nat → Int32) → Int32), va_at D vwC (q, .inr (10, [.ref a])) H ∧ CondAt D J G aF d a g H ∧ f = fun s => if g s = 0 then 1 else 0) ∨ (∃ (a b : Nat) (g h : (Nat → Int32) → Int32), va_at D vwC (q, .inr (14, [.ref a, .ref b])) H ∧ SumAt D J G aF a g H ∧ SumAt D J G aF b h H ∧ f = fun s => if g s < h s then 1 else 0) ∨ ∃ (all : Int32) (lst n : Nat) (els : Nat → Nat) (gs : Nat → (Nat → Int32) → Int32), (all = 0 ∨ all = 1) ∧ va_at D vwC (q, .inr (9, [.int all, .ref lst])) H ∧ ListAt D J G lst n els H ∧ (∀ i, i < n → CondAt D J G aF d (els i) (gs i) H) ∧ f = fun s => rowV all n (fun i => gs i s))
def LineAt (D : va_G) (J : Nat → ClassId) (G : Nat → Prop) (aF : Nat → Nat) (q kd : Nat) (n : Int32) (w : (Nat → Int32) → Int32) (H : Heap) : Prop := G q ∧ kd < 3 ∧ ((va_at D vwC (q, .inr (8, [.ref (aF (7 + kd)), .int n, .null])) H ∧ w = fun _ => 1) ∨ ∃ c d : Nat, d ≤ 20 ∧ va_at D vwC (q, .inr (8, [.ref (aF (7 + kd)), .int n, .ref c])) H ∧ CondAt D J G aF d c w H)
def LawAt (D : va_G) (J : Nat → ClassId) (G : Nat → Prop) (aF : Nat → Nat) (q : Nat) (f : Nat → (Nat → Int32) → Int32) (m : Int32) (H : Heap) : Prop := G q ∧ ∃ (lst n : Nat) (els kd : Nat → Nat) (nn : Nat → Int32) (ww : Nat → (Nat → Int32) → Int32), va_at D vwC (q, .inr (7, [.ref lst])) H ∧ G lst ∧ (n = 0 → ∃ v w : Value, va_at D vwC (lst, .inr (6, [v, w, .int 0])) H) ∧ (0 < n → ListAt D J G lst n els H) ∧ (∀ i, i < n → LineAt D J G aF (els i) (kd i) (nn i) (ww i) H) ∧ n ≤ 12 ∧ m = nI n ∧ f = fun k s => sumI n (fun i => if kd i = k ∧ ¬ ww i s = 0 then nn i else 0)
section LAWKEPT
variable {D : va_G} {J : Nat → ClassId} {G : Nat → Prop} {aF : Nat → Nat} {H H1 : Heap}
theorem PartAt.kept {q : Nat} {g : (Nat → Int32) → Int32} (h : PartAt D G aF q g H) (hq : ∀ q : Nat, q < H.size → G q → H1[q]? = H[q]?) : PartAt D G aF q g H1 := by
  obtain ⟨h0, h⟩ := h
  rcases h with ⟨n, h1, h2⟩ | ⟨n, i, h1, h2, h3⟩
  · exact ⟨h0, Or.inl ⟨n, h1.kept (hq _ h1.lt h0), h2⟩⟩
  · exact ⟨h0, Or.inr ⟨n, i, h1, h2.kept (hq _ h2.lt h0), h3⟩⟩
theorem ListAt.kept {q n : Nat} {els : Nat → Nat} (h : ListAt D J G q n els H) (hq : ∀ q : Nat, q < H.size → G q → H1[q]? = H[q]?) : ListAt D J G q n els H1 := by
  obtain ⟨h0, mc, arr, cap, f, h1, h2, h3, h4⟩ := h
  exact ⟨h0, mc, arr, cap, f, h1, h2.kept (hq _ h2.lt h0), h3.kept (hq _ h3.lt h1), h4⟩
theorem SumAt.kept {q : Nat} {f : (Nat → Int32) → Int32} (h : SumAt D J G aF q f H) (hq : ∀ q : Nat, q < H.size → G q → H1[q]? = H[q]?) : SumAt D J G aF q f H1 := by
  obtain ⟨h0, lst, n, els, gs, h1, h2, h3, h4⟩ := h
  exact ⟨h0, lst, n, els, gs, h1.kept (hq _ h1.lt h0), h2.kept hq, fun i hi => (h3 i hi).kept hq, h4⟩
theorem CondAt.kept (hq : ∀ q : Nat, q < H.size → G q → H1[q]? = H[q]?) : ∀ (d q : Nat) (f : (Nat → Int32) → Int32), CondAt D J G aF d q f H → CondAt D J G aF d q f H1 := by
  intro d
  induction d with
  | zero => intro q f h; exact h
  | succ d ih =>
    intro q f h
    obtain ⟨h0, h⟩ := h
    refine ⟨h0, ?_⟩
    rcases h with ⟨b, h1, h2, h3⟩ | ⟨a, g, h1, h2, h3⟩ | ⟨a, b, g, h, h1, h2, h3, h4⟩ | ⟨all, lst, n, els, gs, h1, h2, h3, h4, h5⟩
    · exact Or.inl ⟨b, h1, h2.kept (hq _ h2.lt h0), h3⟩
    · exact Or.inr (Or.inl ⟨a, g, h1.kept (hq _ h1.lt h0), ih a g h2, h3⟩)
    · exact Or.inr (Or.inr (Or.inl ⟨a, b, g, h, h1.kept (hq _ h1.lt h0), h2.kept hq, h3.kept hq, h4⟩))
    · exact Or.inr (Or.inr (Or.inr ⟨all, lst, n, els, gs, h1, h2.kept (hq _ h2.lt h0), h3.kept hq, fun i hi => ih _ _ (h4 i hi), h5⟩))
theorem LineAt.kept {q kd : Nat} {n : Int32} {w : (Nat → Int32) → Int32} (h : LineAt D J G aF q kd n w H) (hq : ∀ q : Nat, q < H.size → G q → H1[q]? = H[q]?) : LineAt D J G aF q kd n w H1 := by
  obtain ⟨h0, h1, h⟩ := h
  refine ⟨h0, h1, ?_⟩
  rcases h with ⟨h2, h3⟩ | ⟨c, d, hd, h2, h3⟩
  · exact Or.inl ⟨h2.kept (hq _ h2.lt h0), h3⟩
  · exact Or.inr ⟨c, d, hd, h2.kept (hq _ h2.lt h0), CondAt.kept hq d c w h3⟩
theorem LawAt.kept {q : Nat} {f : Nat → (Nat → Int32) → Int32} {m : Int32} (h : LawAt D J G aF q f m H) (hq : ∀ q : Nat, q < H.size → G q → H1[q]? = H[q]?) : LawAt D J G aF q f m H1 := by
  obtain ⟨h0, lst, n, els, kd, nn, ww, h1, h2, h3, h4, h5, h6⟩ := h
  refine ⟨h0, lst, n, els, kd, nn, ww, h1.kept (hq _ h1.lt h0), h2, fun e => ?_, fun e => (h4 e).kept hq, fun i hi => (h5 i hi).kept hq, h6⟩
  obtain ⟨v, w, h7⟩ := h3 e
  exact ⟨v, w, h7.kept (hq _ h7.lt h2)⟩
end LAWKEPT
/-- the good laws: what each says, Λ, and how many lines it has, Λn -/
def LawE (D : va_G) (J : Nat → ClassId) (o : Nat) (G Ld : Nat → Prop) (aF : Nat → Nat) (Λ : Nat → Nat → (Nat → Int32) → Int32) (Λn : Nat → Int32) (U : State) : Prop := (∀ a, Ld a → LawAt D J G aF a (Λ a) (Λn a) U.heap) ∧ ∀ q, G q → ¬ rC o q
theorem LawE.go {D : va_G} {J : Nat → ClassId} {o : Nat} {G Ld : Nat → Prop} {aF : Nat → Nat} {Λ : Nat → Nat → (Nat → Int32) → Int32} {Λn : Nat → Int32} {s U : State} (h : LawE D J o G Ld aF Λ Λn s) (hq : ∀ q : Nat, q < s.heap.size → ¬ rC o q → U.heap[q]? = s.heap[q]?) : LawE D J o G Ld aF Λ Λn U := ⟨fun a ha => (h.1 a ha).kept (fun q h1 h2 => hq q h1 (h.2 q h2)), h.2⟩
/-! the constants of Kind and Fact, as the classes' statics hold them -/
def kindN : List String := ["RIPE", "SLOW", "COST"]
def factN : List String := ["DEED", "INK", "SUM", "RIPE", "SEASON", "DAMP", "SALT"]
def EnumE (z : Nat) (aF : Nat → Nat) (U : State) : Prop := (∀ (i : Nat) (n : String), kindN[i]? = some n → va_Z "LateInks$Kind" n "LLateInks$Kind;" (.ref (aF (7 + i))) (fun q => z ≤ q) U U.heap) ∧ (∀ i, i < 7 → va_OF "java/lang/Enum" "ordinal" "I" (.int (nI i)) (aF i) (fun q => z ≤ q) U U.heap ∧ va_O "LateInks$Fact" (aF i) (fun q => z ≤ q) U U.heap) ∧ ∀ i j, i < 3 → j < 3 → aF (7 + i) = aF (7 + j) → i = j
theorem EnumE.go {z : Nat} {aF : Nat → Nat} {s U : State} (h : EnumE z aF s) (hW : s.WarmedH U.vm) (hq : ∀ q : Nat, q < s.heap.size → ¬ z ≤ q → U.heap[q]? = s.heap[q]?) : EnumE z aF U := ⟨fun i n hn => va_Z.moved hW.alike ((h.1 i n hn).kept hq), fun i hi => ⟨va_OF.moved hW.alike ((h.2.1 i hi).1.kept hq), va_O.moved hW.alike ((h.2.1 i hi).2.kept hq)⟩, h.2.2⟩
/-! where a walk of the component's stands -/
def yCond : MethodName := ⟨"LateInks$Cond", "holds", "(LLateInks$Scene;)Z"⟩
def faceL : List (String × MethodName) := [(RX12, yX12_holds), (RX13, yX13_holds), (RX14, yX14_holds), (RX18, yX18_holds)]
/-- words of the calls through the interface: they don't ride in the lists -/
def FaceE (U : State) : Prop := ∀ (i : Nat) (q : String × MethodName), faceL[i]? = some q → va_Fw q.1 yCond q.2 U
theorem FaceE.go {s U : State} (h : FaceE s) (hW : s.WarmedH U.vm) : FaceE U := fun i q hi => va_Fw.moved (by decide) (show s.vm.Alike U.vm from hW.alike) (h i q hi)
def ECC (D : va_G) (J : Nat → ClassId) (o z : Nat) (aK aV : Nat → Nat) (G Ld : Nat → Prop) (aF : Nat → Nat) (Λ : Nat → Nat → (Nat → Int32) → Int32) (Λn : Nat → Int32) (U : State) : Prop := EC D J z aK aV U ∧ LawE D J o G Ld aF Λ Λn U ∧ z ≤ o ∧ EnumE z aF U ∧ FaceE U
theorem ECC.go {D : va_G} {J : Nat → ClassId} {o z : Nat} {aK aV : Nat → Nat} {G Ld : Nat → Prop} {aF : Nat → Nat} {Λ : Nat → Nat → (Nat → Int32) → Int32} {Λn : Nat → Int32} {s U : State} (h : ECC D J o z aK aV G Ld aF Λ Λn s) (hW : s.WarmedH U.vm) (hq : ∀ q : Nat, q < s.heap.size → ¬ rC o q → U.heap[q]? = s.heap[q]?) : ECC D J o z aK aV G Ld aF Λ Λn U :=
  ⟨h.1.go hW (fun q h1 h2 => hq q h1 (fun h3 => h2 (Nat.le_trans h.2.2.1 h3.1))), h.2.1.go hq, h.2.2.1, h.2.2.2.1.go hW (fun q h1 h2 => hq q h1 (fun h3 => h2 (Nat.le_trans h.2.2.1 h3.1))), h.2.2.2.2.go hW⟩
def IC (D : va_G) (J : Nat → ClassId) (o : Nat) (Ld : Nat → Prop) (s : State) (H : Heap) (locs : List Loc) (σ : Cs) : Prop := PC D J o Ld σ H ∧ va_S (rC o) s.heap H locs
/-- contracts: As are all the arguments, the receiver among them -/
def CMi (y : MethodName) (cd : ByteArray) (nL : Nat) (ret : Option FieldType) (fr lo : Nat) (Λ : Nat → Nat → (Nat → Int32) → Int32) (Λn : Nat → Int32) (As : Nat → (Nat → Nat) → (Nat → Nat) → List Value) (r : Int32) (σ σ' : Cs) : Prop :=
  ∀ (l : Launch) (D : va_G) (J : Nat → ClassId) (o z : Nat) (aK aV : Nat → Nat) (G Ld : Nat → Prop) (aF : Nat → Nat), Met l y (ws_ y cd nL ret) ({ frames := fr, cells := 0, slots := 0, locals := lo }) (va_Pc (As o aK aF) (fun U => PC D J o Ld σ U.heap ∧ ECC D J o z aK aV G Ld aF Λ Λn U)) (va_Qi (fun (x : Int32) (_ : Unit) => x = r) (fun _ t => PC D J o Ld σ' t.heap) (rC o)) 0 0 (rC o)
def CMv (y : MethodName) (cd : ByteArray) (nL : Nat) (ret : Option FieldType) (fr lo : Nat) (Λ : Nat → Nat → (Nat → Int32) → Int32) (Λn : Nat → Int32) (As : Nat → (Nat → Nat) → (Nat → Nat) → List Value) (σ σ' : Cs) : Prop :=
  ∀ (l : Launch) (D : va_G) (J : Nat → ClassId) (o z : Nat) (aK aV : Nat → Nat) (G Ld : Nat → Prop) (aF : Nat → Nat), Met l y (ws_ y cd nL ret) ({ frames := fr, cells := 0, slots := 0, locals := lo }) (va_Pc (As o aK aF) (fun U => PC D J o Ld σ U.heap ∧ ECC D J o z aK aV G Ld aF Λ Λn U)) (va_Qv (fun (_ : Unit) => True) (fun _ t => PC D J o Ld σ' t.heap) (rC o)) 0 0 (rC o)
/-- .. with a reference for answer -/
def CMr (y : MethodName) (cd : ByteArray) (nL : Nat) (ret : Option FieldType) (fr lo : Nat) (Λ : Nat → Nat → (Nat → Int32) → Int32) (Λn : Nat → Int32) (As : Nat → (Nat → Nat) → (Nat → Nat) → List Value) (r : Nat → Nat) (σ σ' : Cs) : Prop :=
  ∀ (l : Launch) (D : va_G) (J : Nat → ClassId) (o z : Nat) (aK aV : Nat → Nat) (G Ld : Nat → Prop) (aF : Nat → Nat), Met l y (ws_ y cd nL ret) ({ frames := fr, cells := 0, slots := 0, locals := lo }) (va_Pc (As o aK aF) (fun U => PC D J o Ld σ U.heap ∧ ECC D J o z aK aV G Ld aF Λ Λn U)) (va_Qr (fun (_ : Unit) => True) (fun _ a t => a = r o ∧ PC D J o Ld σ' t.heap) (rC o)) 0 0 (rC o)
section CROWS
variable {p : Program} {l : Launch} {e : Env} {R : Room} {s : State} {m : MethodId} {args : Array Value} {below : List Frame} {meth : Method} {c : Code} {H : Heap} {locs : List Loc} {cells slots : Nat} {Q : State → Prop}
variable {cc : ByteArray} {pc : Nat} {ls : Array Slot} {rest : List Value} {D : va_G} {J : Nat → ClassId} {o z : Nat} {aK aV : Nat → Nat} {G Ld : Nat → Prop} {aF : Nat → Nat} {Λ : Nat → Nat → (Nat → Int32) → Int32} {Λn : Nat → Int32} {σ σ' : Cs}
theorem IC.old (hI : IC D J o Ld s H locs σ) : ∀ q : Nat, q < s.heap.size → ¬ rC o q → H[q]? = s.heap[q]? := hI.2.2.1
theorem IC.env (hE : ECC D J o z aK aV G Ld aF Λ Λn s) (hI : IC D J o Ld s H locs σ) {U : State} (hU : U.heap = H) (hW : s.WarmedH U.vm) : ECC D J o z aK aV G Ld aF Λ Λn U := hE.go hW (fun q h1 h2 => by rw [hU]; exact hI.old q h1 h2)
theorem rW_rC {k : Nat} (hk : k < 5) : ∀ q, rW (wA o k) q → rC o q := by
  intro q h
  obtain ⟨h1, h2⟩ := h
  have a2 := wOf_in k hk
  simp only [wA] at h1 h2
  exact ⟨by omega, by omega, by omega⟩
theorem rO_rC {i a : Nat} {e : va_E} (h : (ctO J o σ)[i]? = some (a, e)) : rC o a := by
  obtain ⟨d, hd, e1⟩ := ctO_at i _ h
  have a2 := oOf_in i d hd
  have e2 : a = o + d := e1
  exact ⟨by omega, by omega, by omega⟩
/-- one cell written -/
theorem va_S.one {A : Nat → Prop} {H0 H1 : Heap} {a : Nat} {locs1 : List Loc} (h : va_S A H0 H locs) (ha : A a) (hz : H1.size = H.size) (hq : ∀ q : Nat, q ≠ a → H1[q]? = H[q]?) (hl : ∀ l ∈ locs1, l ∈ locs ∨ l.base = a) : va_S A H0 H1 locs1 :=
  ⟨by rw [hz]; exact h.1, fun q h1 h2 => (hq q (fun e => h2 (by rw [e]; exact ha))).trans (h.2.1 q h1 h2), fun l h9 => by
    rcases hl l h9 with g | g
    · exact h.2.2 l g
    · rw [g]; exact ha⟩
/-- a world's cell has been written -/
theorem IC.putW (hI : IC D J o Ld s H locs σ) {k : Nat} (hk : k < 5) {P a : Nat} {e0 e1 : va_E} {w' : Mm} {H1 : Heap} {locs1 : List Loc} (h0 : (ctW J (wA o k) (cl σ k) (cw σ k))[P]? = some (a, e0)) (hs : (ctW J (wA o k) (cl σ k) (cw σ k)).set P (a, e1) = ctW J (wA o k) (cl σ k) w') (hat : va_at D vwC (a, e1) H1) (hz : H1.size = H.size) (hq : ∀ q : Nat, q ≠ a → H1[q]? = H[q]?) (hl : ∀ l ∈ locs1, l ∈ locs ∨ l.base = a) : IC D J o Ld s H1 locs1 (cwu σ k w') := by
  have hr : rW (wA o k) a := by
    have := ctW_at P _ h0
    exact ⟨by omega, by omega⟩
  have hl0 := (List.getElem?_eq_some_iff.mp h0).1
  refine ⟨hI.1.setW hk ?_ (fun q _ h2 => hq q (fun e => h2 (by rw [e]; exact hr))) (fun i hi => ⟨if_neg hi, rfl⟩) ⟨rfl, rfl⟩ (fun a ha => hI.1.2.2 k hk a ha), va_S.one hI.2 (rW_rC hk a hr) hz hq hl⟩
  rw [show cw (cwu σ k w') k = w' from if_pos rfl, show cl (cwu σ k w') k = cl σ k from rfl, ← hs]
  exact (hI.1.1 k hk).set ctW_D h0 hat hq
/-- a cell of the rest has been written -/
theorem IC.putO (hI : IC D J o Ld s H locs σ) {P a : Nat} {e0 e1 : va_E} {H1 : Heap} {locs1 : List Loc} (h0 : (ctO J o σ)[P]? = some (a, e0)) (hs : (ctO J o σ).set P (a, e1) = ctO J o σ') (h1 : cw σ' = cw σ ∧ cl σ' = cl σ) (hat : va_at D vwC (a, e1) H1) (hz : H1.size = H.size) (hq : ∀ q : Nat, q ≠ a → H1[q]? = H[q]?) (hl : ∀ l ∈ locs1, l ∈ locs ∨ l.base = a) : IC D J o Ld s H1 locs1 σ' :=
  ⟨hI.1.setO h0 hs hat hq h1, va_S.one hI.2 (rO_rC h0) hz hq hl⟩
end CROWS

/-! the component's contracts out of their walks; calls -/
theorem CMi.of {y : MethodName} {cd : ByteArray} {nL fr lo : Nat} {Λ : Nat → Nat → (Nat → Int32) → Int32} {Λn : Nat → Int32} {As : Nat → (Nat → Nat) → (Nat → Nat) → List Value} {r : Int32} {σ σ' : Cs} (hy : plainName y.cls = true) (hlen : ∀ (o : Nat) (aK aF : Nat → Nat), (lg_sl (As o aK aF)).length ≤ nL)
    (body : (∀ (p : Program) (l : Launch) (e : Env) (s : State) (m : MethodId) (args : Array Value) (below : List Frame) (meth : Method) (c : Code) (D : va_G) (J : Nat → ClassId) (o z : Nat) (aK aV : Nat → Nat) (G Ld : Nat → Prop) (aF : Nat → Nat) (Q : State → Prop) (ls : Array Slot), p.tables.exec = Jvm.exec → c.code = cd → c.maxLocals = nL → s.vm.findClass y.cls = some m.cls → (∀ w ∈ lw_all, w.before args s = true) → ECC D J o z aK aV G Ld aF Λ Λn s →
      (∀ (H : Heap) (locs : List Loc) (pc : Nat) (ls : Array Slot), IC D J o Ld s H locs σ' → decode cd pc = .ok (.ireturn, 1) → W p l e ({ frames := fr, cells := 0, slots := 0, locals := lo } : Room) s m args below meth c H locs 0 0 Q (F0 m pc ls [.int r])) →
      IC D J o Ld s s.heap [] σ → lv_has ls nL (lv_args 0 (As o aK aF)) → W p l e ({ frames := fr, cells := 0, slots := 0, locals := lo } : Room) s m args below meth c s.heap [] 0 0 Q (F0 m 0 ls []))) : CMi y cd nL (some .int) fr lo Λ Λn As r σ σ' := by
  intro l D J o z aK aV G Ld aF
  refine Met.ofW (cc := cd) (maxL := nL) (ret := some .int) hy rfl ?_
  intro p e s m args below meth c s₁ B hml hv
  obtain ⟨rfl, hP, hE⟩ := hv
  have hts := atoms_spec (ws := ws_ y cd nL (some .int)) B.pre
  have hts : ∀ w ∈ lw_all, w.before _ s = true := fun w h => hts w (List.mem_cons_of_mem _ h)
  have hl := lv_entry (As o aK aF) (n := nL) (hlen o aK aF)
  rw [lg_entry_eq]
  generalize (lg_sl (As o aK aF) ++ List.replicate (nL - (lg_sl (As o aK aF)).length) Slot.unset).toArray = ls at hl ⊢
  exact body p l e s m _ below meth c D J o z aK aV G Ld aF _ ls B.exec B.bytes hml (findClass_of_methodNamed B.named) hts hE (fun H locs pc ls hI hdg => W.iret B.exec B.bytes B.returns (fun t ht hW => ⟨⟨r, (), rfl, rfl, by show PC D J o Ld σ' t.heap; rw [ht]; exact hI.1⟩, hI.2.F ht⟩) hI.2.2.2 hdg B.notSynchronized) ⟨hP, va_S.rf⟩ hl

theorem CMz.of {y : MethodName} {cd : ByteArray} {nL fr lo : Nat} {Λ : Nat → Nat → (Nat → Int32) → Int32} {Λn : Nat → Int32} {As : Nat → (Nat → Nat) → (Nat → Nat) → List Value} {r : Int32} {σ σ' : Cs} (hy : plainName y.cls = true) (hlen : ∀ (o : Nat) (aK aF : Nat → Nat), (lg_sl (As o aK aF)).length ≤ nL)
    (body : (∀ (p : Program) (l : Launch) (e : Env) (s : State) (m : MethodId) (args : Array Value) (below : List Frame) (meth : Method) (c : Code) (D : va_G) (J : Nat → ClassId) (o z : Nat) (aK aV : Nat → Nat) (G Ld : Nat → Prop) (aF : Nat → Nat) (Q : State → Prop) (ls : Array Slot), p.tables.exec = Jvm.exec → c.code = cd → c.maxLocals = nL → s.vm.findClass y.cls = some m.cls → (∀ w ∈ lw_all, w.before args s = true) → ECC D J o z aK aV G Ld aF Λ Λn s →
      (∀ (H : Heap) (locs : List Loc) (pc : Nat) (ls : Array Slot), IC D J o Ld s H locs σ' → (r = 0 ∨ r = 1) → decode cd pc = .ok (.ireturn, 1) → W p l e ({ frames := fr, cells := 0, slots := 0, locals := lo } : Room) s m args below meth c H locs 0 0 Q (F0 m pc ls [.int r])) →
      IC D J o Ld s s.heap [] σ → lv_has ls nL (lv_args 0 (As o aK aF)) → W p l e ({ frames := fr, cells := 0, slots := 0, locals := lo } : Room) s m args below meth c s.heap [] 0 0 Q (F0 m 0 ls []))) : CMi y cd nL (some .boolean) fr lo Λ Λn As r σ σ' := by
  intro l D J o z aK aV G Ld aF
  refine Met.ofW (cc := cd) (maxL := nL) (ret := some .boolean) hy rfl ?_
  intro p e s m args below meth c s₁ B hml hv
  obtain ⟨rfl, hP, hE⟩ := hv
  have hts := atoms_spec (ws := ws_ y cd nL (some .boolean)) B.pre
  have hts : ∀ w ∈ lw_all, w.before _ s = true := fun w h => hts w (List.mem_cons_of_mem _ h)
  have hl := lv_entry (As o aK aF) (n := nL) (hlen o aK aF)
  rw [lg_entry_eq]
  generalize (lg_sl (As o aK aF) ++ List.replicate (nL - (lg_sl (As o aK aF)).length) Slot.unset).toArray = ls at hl ⊢
  exact body p l e s m _ below meth c D J o z aK aV G Ld aF _ ls B.exec B.bytes hml (findClass_of_methodNamed B.named) hts hE (fun H locs pc ls hI h01 hdg => W.zret B.exec B.bytes B.returns (zb_n h01) (fun t ht hW => ⟨⟨r, (), rfl, rfl, by show PC D J o Ld σ' t.heap; rw [ht]; exact hI.1⟩, hI.2.F ht⟩) hI.2.2.2 hdg B.notSynchronized) ⟨hP, va_S.rf⟩ hl

theorem CMv.of {y : MethodName} {cd : ByteArray} {nL fr lo : Nat} {Λ : Nat → Nat → (Nat → Int32) → Int32} {Λn : Nat → Int32} {As : Nat → (Nat → Nat) → (Nat → Nat) → List Value} {σ σ' : Cs} (hy : plainName y.cls = true) (hlen : ∀ (o : Nat) (aK aF : Nat → Nat), (lg_sl (As o aK aF)).length ≤ nL)
    (body : (∀ (p : Program) (l : Launch) (e : Env) (s : State) (m : MethodId) (args : Array Value) (below : List Frame) (meth : Method) (c : Code) (D : va_G) (J : Nat → ClassId) (o z : Nat) (aK aV : Nat → Nat) (G Ld : Nat → Prop) (aF : Nat → Nat) (Q : State → Prop) (ls : Array Slot), p.tables.exec = Jvm.exec → c.code = cd → c.maxLocals = nL → s.vm.findClass y.cls = some m.cls → (∀ w ∈ lw_all, w.before args s = true) → ECC D J o z aK aV G Ld aF Λ Λn s →
      (∀ (H : Heap) (locs : List Loc) (pc : Nat) (ls : Array Slot), IC D J o Ld s H locs σ' → decode cd pc = .ok (.return_, 1) → W p l e ({ frames := fr, cells := 0, slots := 0, locals := lo } : Room) s m args below meth c H locs 0 0 Q (F0 m pc ls [])) →
      IC D J o Ld s s.heap [] σ → lv_has ls nL (lv_args 0 (As o aK aF)) → W p l e ({ frames := fr, cells := 0, slots := 0, locals := lo } : Room) s m args below meth c s.heap [] 0 0 Q (F0 m 0 ls []))) : CMv y cd nL none fr lo Λ Λn As σ σ' := by
  intro l D J o z aK aV G Ld aF
  refine Met.ofW (cc := cd) (maxL := nL) (ret := none) hy rfl ?_
  intro p e s m args below meth c s₁ B hml hv
  obtain ⟨rfl, hP, hE⟩ := hv
  have hts := atoms_spec (ws := ws_ y cd nL (none)) B.pre
  have hts : ∀ w ∈ lw_all, w.before _ s = true := fun w h => hts w (List.mem_cons_of_mem _ h)
  have hl := lv_entry (As o aK aF) (n := nL) (hlen o aK aF)
  rw [lg_entry_eq]
  generalize (lg_sl (As o aK aF) ++ List.replicate (nL - (lg_sl (As o aK aF)).length) Slot.unset).toArray = ls at hl ⊢
  exact body p l e s m _ below meth c D J o z aK aV G Ld aF _ ls B.exec B.bytes hml (findClass_of_methodNamed B.named) hts hE (fun H locs pc ls hI hdg => W.vret B.exec B.bytes B.returns (fun t ht hW => ⟨⟨(), rfl, trivial, by show PC D J o Ld σ' t.heap; rw [ht]; exact hI.1⟩, hI.2.F ht⟩) hI.2.2.2 hdg B.notSynchronized) ⟨hP, va_S.rf⟩ hl

theorem CMr.of {y : MethodName} {cd : ByteArray} {nL fr lo : Nat} {Λ : Nat → Nat → (Nat → Int32) → Int32} {Λn : Nat → Int32} {As : Nat → (Nat → Nat) → (Nat → Nat) → List Value} {r : Nat → Nat} {C : String} {σ σ' : Cs} (hy : plainName y.cls = true) (hlen : ∀ (o : Nat) (aK aF : Nat → Nat), (lg_sl (As o aK aF)).length ≤ nL)
    (body : (∀ (p : Program) (l : Launch) (e : Env) (s : State) (m : MethodId) (args : Array Value) (below : List Frame) (meth : Method) (c : Code) (D : va_G) (J : Nat → ClassId) (o z : Nat) (aK aV : Nat → Nat) (G Ld : Nat → Prop) (aF : Nat → Nat) (Q : State → Prop) (ls : Array Slot), p.tables.exec = Jvm.exec → c.code = cd → c.maxLocals = nL → s.vm.findClass y.cls = some m.cls → (∀ w ∈ lw_all, w.before args s = true) → ECC D J o z aK aV G Ld aF Λ Λn s →
      (∀ (H : Heap) (locs : List Loc) (pc : Nat) (ls : Array Slot), IC D J o Ld s H locs σ' → decode cd pc = .ok (.areturn, 1) → W p l e ({ frames := fr, cells := 0, slots := 0, locals := lo } : Room) s m args below meth c H locs 0 0 Q (F0 m pc ls [.ref (r o)])) →
      IC D J o Ld s s.heap [] σ → lv_has ls nL (lv_args 0 (As o aK aF)) → W p l e ({ frames := fr, cells := 0, slots := 0, locals := lo } : Room) s m args below meth c s.heap [] 0 0 Q (F0 m 0 ls []))) : CMr y cd nL (some (.object C)) fr lo Λ Λn As r σ σ' := by
  intro l D J o z aK aV G Ld aF
  refine Met.ofW (cc := cd) (maxL := nL) (ret := some (.object C)) hy rfl ?_
  intro p e s m args below meth c s₁ B hml hv
  obtain ⟨rfl, hP, hE⟩ := hv
  have hts := atoms_spec (ws := ws_ y cd nL (some (.object C))) B.pre
  have hts : ∀ w ∈ lw_all, w.before _ s = true := fun w h => hts w (List.mem_cons_of_mem _ h)
  have hl := lv_entry (As o aK aF) (n := nL) (hlen o aK aF)
  rw [lg_entry_eq]
  generalize (lg_sl (As o aK aF) ++ List.replicate (nL - (lg_sl (As o aK aF)).length) Slot.unset).toArray = ls at hl ⊢
  exact body p l e s m _ below meth c D J o z aK aV G Ld aF _ ls B.exec B.bytes hml (findClass_of_methodNamed B.named) hts hE (fun H locs pc ls hI hdg => W.aret B.exec B.bytes B.returns (Or.inl ⟨C, rfl⟩) (Or.inr ⟨r o, rfl⟩) (fun t ht hW => ⟨⟨(), r o, rfl, trivial, rfl, by show PC D J o Ld σ' t.heap; rw [ht]; exact hI.1⟩, hI.2.F ht⟩) hI.2.2.2 hdg B.notSynchronized) ⟨hP, va_S.rf⟩ hl

section CCALLS
variable {p : Program} {l : Launch} {e : Env} {R : Room} {s : State} {m : MethodId} {args : Array Value} {below : List Frame} {meth : Method} {c : Code} {H : Heap} {locs : List Loc} {cells slots : Nat} {Q : State → Prop}
variable {cc : ByteArray} {pc : Nat} {ls : Array Slot} {rest : List Value} {D : va_G} {J : Nat → ClassId} {o z : Nat} {aK aV : Nat → Nat} {G Ld : Nat → Prop} {aF : Nat → Nat} {Λ : Nat → Nat → (Nat → Int32) → Int32} {Λn : Nat → Int32} {σ σ' : Cs}
theorem g_recv {cl : List vw_C} {tys : List (ClassId × FieldType)} {b ci N : Nat} {fs : List Value} {C : String} {T : u_T} (hK : va_K D cl tys s) (hat : va_at D cl (b, .inr (ci, fs)) H) (hc : cl[ci]? = some (C, T, N)) : ∃ cellB : Cell, H[b]? = some cellB ∧ cellB.vm.isStatics = false ∧ s.vm.findClass C = some cellB.cls := va_recv hK (va_P1 hat) (ci := ci) (q0 := 0) hc rfl

theorem ccallI (hx : p.tables.exec = Jvm.exec) (hb : c.code = cc) (hts : ∀ w ∈ lw_all, w.before args s = true) {own : String} (hown : s.vm.findClass own = some m.cls) (hE : ECC D J o z aK aV G Ld aF Λ Λn s) (hI : IC D J o Ld s H locs σ) {nL : Nat} (hml : c.maxLocals = nL) (hlsz : ls.size = nL)
    {y : MethodName} {cd : ByteArray} {nL' fr lo n index b ci N : Nat} {fs : List Value} {C : String} {T : u_T} {ret : Option FieldType} {As : Nat → (Nat → Nat) → (Nat → Nat) → List Value} {As' : List Value} {r : Int32} (hM : CMi y cd nL' ret fr lo Λ Λn As r σ σ') (cwl : CallW R s args own C index y cd nL' ret (ws_ y cd nL' ret) ({ frames := fr, cells := 0, slots := 0, locals := lo }) 0 0 n) (hat : va_at D vwC (b, .inr (ci, fs)) H) (hcl : vwC[ci]? = some (C, T, N)) (hAs : As o aK aF = .ref b :: As')
    (hc : cells ≤ R.cells ∧ slots ≤ R.slots) (hn : As'.length = n) {st : List Value} (hst : st = As'.reverse ++ .ref b :: rest) (hW : 2 * (F0 m pc ls st).monitorRoom + (rest.map fun v => v.category).sum ≤ 8) (hdg : decode cc pc = .ok (.invokevirtual index, 3))
    (kk : ∀ (H1 : Heap) (locs1 : List Loc), IC D J o Ld s H1 locs1 σ' → W p l e R s m args below meth c H1 locs1 cells slots Q (F0 m (pc + 3) ls (.int r :: rest))) : W p l e R s m args below meth c H locs cells slots Q (F0 m pc ls st) := by
  have hM := hM l D J o z aK aV G Ld aF
  rw [hAs] at hM
  refine va_calli (va_runV (As := As') (rest := rest) ⟨hx, hb, hml, hown, hts⟩ hM cwl ⟨fun a U g mk q => ?_, g_recv hE.1.1 hat hcl, fun U hU hW => ⟨rfl, by rw [hU]; exact hI.1, hI.env hE hU hW⟩⟩ rfl hn hlsz hst hW hdg ⟨hc.1, hc.2⟩) hI.2 (fun q _ h => h) (fun q h => h) (fun r' u t H1 locs1 ht hvm hp hB hz1 hk1 hS => ?_)
  · obtain ⟨q0, qP, qE⟩ := q
    exact ⟨q0, qP, qE.go (State.WarmedH.refl U) (fun _ _ _ => rfl)⟩
  · have hr' : r' = r := hp
    subst hr'
    exact kk H1 locs1 ⟨by rw [← ht]; exact hB, hS⟩

theorem ccallV (hx : p.tables.exec = Jvm.exec) (hb : c.code = cc) (hts : ∀ w ∈ lw_all, w.before args s = true) {own : String} (hown : s.vm.findClass own = some m.cls) (hE : ECC D J o z aK aV G Ld aF Λ Λn s) (hI : IC D J o Ld s H locs σ) {nL : Nat} (hml : c.maxLocals = nL) (hlsz : ls.size = nL)
    {y : MethodName} {cd : ByteArray} {nL' fr lo n index b ci N : Nat} {fs : List Value} {C : String} {T : u_T} {ret : Option FieldType} {As : Nat → (Nat → Nat) → (Nat → Nat) → List Value} {As' : List Value} (hM : CMv y cd nL' ret fr lo Λ Λn As σ σ') (cwl : CallW R s args own C index y cd nL' ret (ws_ y cd nL' ret) ({ frames := fr, cells := 0, slots := 0, locals := lo }) 0 0 n) (hat : va_at D vwC (b, .inr (ci, fs)) H) (hcl : vwC[ci]? = some (C, T, N)) (hAs : As o aK aF = .ref b :: As')
    (hc : cells ≤ R.cells ∧ slots ≤ R.slots) (hn : As'.length = n) {st : List Value} (hst : st = As'.reverse ++ .ref b :: rest) (hW : 2 * (F0 m pc ls st).monitorRoom + (rest.map fun v => v.category).sum ≤ 8) (hdg : decode cc pc = .ok (.invokevirtual index, 3))
    (kk : ∀ (H1 : Heap) (locs1 : List Loc), IC D J o Ld s H1 locs1 σ' → W p l e R s m args below meth c H1 locs1 cells slots Q (F0 m (pc + 3) ls (rest))) : W p l e R s m args below meth c H locs cells slots Q (F0 m pc ls st) := by
  have hM := hM l D J o z aK aV G Ld aF
  rw [hAs] at hM
  refine va_callv (va_runV (As := As') (rest := rest) ⟨hx, hb, hml, hown, hts⟩ hM cwl ⟨fun a U g mk q => ?_, g_recv hE.1.1 hat hcl, fun U hU hW => ⟨rfl, by rw [hU]; exact hI.1, hI.env hE hU hW⟩⟩ rfl hn hlsz hst hW hdg ⟨hc.1, hc.2⟩) hI.2 (fun q _ h => h) (fun q h => h) (fun u t H1 locs1 ht hvm hp hB hz1 hk1 hS => ?_)
  · obtain ⟨q0, qP, qE⟩ := q
    exact ⟨q0, qP, qE.go (State.WarmedH.refl U) (fun _ _ _ => rfl)⟩
  · exact kk H1 locs1 ⟨by rw [← ht]; exact hB, hS⟩

theorem ccallR (hx : p.tables.exec = Jvm.exec) (hb : c.code = cc) (hts : ∀ w ∈ lw_all, w.before args s = true) {own : String} (hown : s.vm.findClass own = some m.cls) (hE : ECC D J o z aK aV G Ld aF Λ Λn s) (hI : IC D J o Ld s H locs σ) {nL : Nat} (hml : c.maxLocals = nL) (hlsz : ls.size = nL)
    {y : MethodName} {cd : ByteArray} {nL' fr lo n index b ci N : Nat} {fs : List Value} {C : String} {T : u_T} {ret : Option FieldType} {As : Nat → (Nat → Nat) → (Nat → Nat) → List Value} {As' : List Value} {r : Nat → Nat} (hM : CMr y cd nL' ret fr lo Λ Λn As r σ σ') (cwl : CallW R s args own C index y cd nL' ret (ws_ y cd nL' ret) ({ frames := fr, cells := 0, slots := 0, locals := lo }) 0 0 n) (hat : va_at D vwC (b, .inr (ci, fs)) H) (hcl : vwC[ci]? = some (C, T, N)) (hAs : As o aK aF = .ref b :: As')
    (hc : cells ≤ R.cells ∧ slots ≤ R.slots) (hn : As'.length = n) {st : List Value} (hst : st = As'.reverse ++ .ref b :: rest) (hW : 2 * (F0 m pc ls st).monitorRoom + (rest.map fun v => v.category).sum ≤ 8) (hdg : decode cc pc = .ok (.invokevirtual index, 3))
    (kk : ∀ (H1 : Heap) (locs1 : List Loc), IC D J o Ld s H1 locs1 σ' → W p l e R s m args below meth c H1 locs1 cells slots Q (F0 m (pc + 3) ls (.ref (r o) :: rest))) : W p l e R s m args below meth c H locs cells slots Q (F0 m pc ls st) := by
  have hM := hM l D J o z aK aV G Ld aF
  rw [hAs] at hM
  refine va_callr (va_runV (As := As') (rest := rest) ⟨hx, hb, hml, hown, hts⟩ hM cwl ⟨fun a U g mk q => ?_, g_recv hE.1.1 hat hcl, fun U hU hW => ⟨rfl, by rw [hU]; exact hI.1, hI.env hE hU hW⟩⟩ rfl hn hlsz hst hW hdg ⟨hc.1, hc.2⟩) hI.2 (fun q _ h => h) (fun q h => h) (fun a u t H1 locs1 ht hvm hp hB hz1 hk1 hS => ?_)
  · obtain ⟨q0, qP, qE⟩ := q
    exact ⟨q0, qP, qE.go (State.WarmedH.refl U) (fun _ _ _ => rfl)⟩
  · obtain ⟨ha, hB⟩ := hB
    subst ha
    exact kk H1 locs1 ⟨by rw [← ht]; exact hB, hS⟩

theorem cworldI (hx : p.tables.exec = Jvm.exec) (hb : c.code = cc) (hts : ∀ w ∈ lw_all, w.before args s = true) {own : String} (hown : s.vm.findClass own = some m.cls) (hE : ECC D J o z aK aV G Ld aF Λ Λn s) (hI : IC D J o Ld s H locs σ) {nL : Nat} (hml : c.maxLocals = nL) (hlsz : ls.size = nL)
    {y : MethodName} {cd : ByteArray} {nL' fr lo n index k : Nat} {ret : Option FieldType} {As : (Nat → Nat) → List Value} {w' : Mm} {r : Int32} (hM : WMi y cd nL' ret fr lo As r (cw σ k) w') (hk : k < 5) (cwl : CallW R s args own RX2 index y cd nL' ret (ws_ y cd nL' ret) ({ frames := fr, cells := 0, slots := 0, locals := lo }) 0 0 n) (hσ : some (cwu σ k w') = some σ')
    (hc : cells ≤ R.cells ∧ slots ≤ R.slots) (hn : (As aK).length = n) {st : List Value} (hst : st = (As aK).reverse ++ .ref (wA o k) :: rest) (hW : 2 * (F0 m pc ls st).monitorRoom + (rest.map fun v => v.category).sum ≤ 8) (hdg : decode cc pc = .ok (.invokevirtual index, 3))
    (kk : ∀ (H1 : Heap) (locs1 : List Loc), IC D J o Ld s H1 locs1 σ' → W p l e R s m args below meth c H1 locs1 cells slots Q (F0 m (pc + 3) ls (.int r :: rest))) : W p l e R s m args below meth c H locs cells slots Q (F0 m pc ls st) := by
  cases hσ
  refine va_calli (va_runV (As := As aK) (rest := rest) ⟨hx, hb, hml, hown, hts⟩ (hM l D J (wA o k) z (cl σ k) aK aV (Nat.le_trans hE.2.2.1 (Nat.le_add_right _ _))) cwl ⟨fun a U g mk q => ?_, g_recv hE.1.1 (hI.1.w k hk 0 rfl) rfl, fun U hU hW => ⟨rfl, by rw [hU]; exact hI.1.1 k hk, (hI.env hE hU hW).1⟩⟩ rfl hn hlsz hst hW hdg ⟨hc.1, hc.2⟩) hI.2 (fun q _ h => rW_rC hk q h) (fun q h => rW_rC hk q h) (fun r' u t H1 locs1 ht hvm hp hB hz1 hk1 hS => ?_)
  · obtain ⟨q0, qP, qE⟩ := q
    exact ⟨q0, qP, qE.go (State.WarmedH.refl U) (fun _ _ _ => rfl)⟩
  · have hr' : r' = r := hp
    subst hr'
    exact kk H1 locs1 ⟨hI.1.setW hk (by rw [show cw (cwu σ k w') k = w' from if_pos rfl, ← ht]; exact hB) hk1 (fun i hi => ⟨if_neg hi, rfl⟩) ⟨rfl, rfl⟩ (fun a ha => hI.1.2.2 k hk a ha), hS⟩

theorem cworldV (hx : p.tables.exec = Jvm.exec) (hb : c.code = cc) (hts : ∀ w ∈ lw_all, w.before args s = true) {own : String} (hown : s.vm.findClass own = some m.cls) (hE : ECC D J o z aK aV G Ld aF Λ Λn s) (hI : IC D J o Ld s H locs σ) {nL : Nat} (hml : c.maxLocals = nL) (hlsz : ls.size = nL)
    {y : MethodName} {cd : ByteArray} {nL' fr lo n index k : Nat} {ret : Option FieldType} {As : (Nat → Nat) → List Value} {w' : Mm} (hM : WMv y cd nL' ret fr lo As (cw σ k) w') (hk : k < 5) (cwl : CallW R s args own RX2 index y cd nL' ret (ws_ y cd nL' ret) ({ frames := fr, cells := 0, slots := 0, locals := lo }) 0 0 n) (hσ : some (cwu σ k w') = some σ')
    (hc : cells ≤ R.cells ∧ slots ≤ R.slots) (hn : (As aK).length = n) {st : List Value} (hst : st = (As aK).reverse ++ .ref (wA o k) :: rest) (hW : 2 * (F0 m pc ls st).monitorRoom + (rest.map fun v => v.category).sum ≤ 8) (hdg : decode cc pc = .ok (.invokevirtual index, 3))
    (kk : ∀ (H1 : Heap) (locs1 : List Loc), IC D J o Ld s H1 locs1 σ' → W p l e R s m args below meth c H1 locs1 cells slots Q (F0 m (pc + 3) ls (rest))) : W p l e R s m args below meth c H locs cells slots Q (F0 m pc ls st) := by
  cases hσ
  refine va_callv (va_runV (As := As aK) (rest := rest) ⟨hx, hb, hml, hown, hts⟩ (hM l D J (wA o k) z (cl σ k) aK aV (Nat.le_trans hE.2.2.1 (Nat.le_add_right _ _))) cwl ⟨fun a U g mk q => ?_, g_recv hE.1.1 (hI.1.w k hk 0 rfl) rfl, fun U hU hW => ⟨rfl, by rw [hU]; exact hI.1.1 k hk, (hI.env hE hU hW).1⟩⟩ rfl hn hlsz hst hW hdg ⟨hc.1, hc.2⟩) hI.2 (fun q _ h => rW_rC hk q h) (fun q h => rW_rC hk q h) (fun u t H1 locs1 ht hvm hp hB hz1 hk1 hS => ?_)
  · obtain ⟨q0, qP, qE⟩ := q
    exact ⟨q0, qP, qE.go (State.WarmedH.refl U) (fun _ _ _ => rfl)⟩
  · exact kk H1 locs1 ⟨hI.1.setW hk (by rw [show cw (cwu σ k w') k = w' from if_pos rfl, ← ht]; exact hB) hk1 (fun i hi => ⟨if_neg hi, rfl⟩) ⟨rfl, rfl⟩ (fun a ha => hI.1.2.2 k hk a ha), hS⟩

theorem cwu_self (σ : Cs) (k : Nat) : cwu σ k (cw σ k) = σ := by
  obtain ⟨w, x⟩ := σ
  show ((fun i => if i = k then w k else w i), x) = (w, x)
  congr 1
  funext i
  by_cases h : i = k
  · rw [if_pos h, h]
  · rw [if_neg h]
end CCALLS
