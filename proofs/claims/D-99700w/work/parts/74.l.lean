/-! what the law's parser asks besides: lists, enums; its contract: an object for an answer -/
def jsK : Nat → Nat := fun i => if i = 0 then 28 else if i = 1 then 29 else 30
def jsF : Nat → Nat := fun i => if i = 0 then 4 else if i = 1 then 3 else if i = 2 then 14 else if i = 3 then 28 else if i = 4 then 31 else if i = 5 then 5 else 6
def EnE (aK aF : Nat → Nat) (z : Nat) (U : State) : Prop := (∃ (D9 : va_G) (cK : ClassId) (kv : Nat), EnA D9 "LateInks$Kind" "[LLateInks$Kind;" cK kv 3 7 aF z U) ∧ (∃ (D9 : va_G) (cK : ClassId) (kv : Nat), EnA D9 "LateInks$Fact" "[LLateInks$Fact;" cK kv 7 0 aF z U) ∧ EnT "LateInks$Kind" 7 3 jsK aK aF z U ∧ EnT "LateInks$Fact" 0 7 jsF aK aF z U
theorem EnE.go {aK aF : Nat → Nat} {z : Nat} {s U : State} (h : EnE aK aF z s) (hW : s.WarmedH U.vm) (hq : ∀ q : Nat, q < s.heap.size → ¬ z ≤ q → U.heap[q]? = s.heap[q]?) : EnE aK aF z U := by
  obtain ⟨⟨D1, c1, k1, h1⟩, ⟨D2, c2, k2, h2⟩, h3, h4⟩ := h
  exact ⟨⟨D1, c1, k1, h1.go hW hq⟩, ⟨D2, c2, k2, h2.go hW hq⟩, h3.go hW hq, h4.go hW hq⟩
def castL : List String := [RX11, RX12, RX13, RX14, RX16, RX18]
def EL (D8 D : va_G) (J : Nat → ClassId) (o z : Nat) (aK aV : Nat → Nat) (G Ld : Nat → Prop) (aF : Nat → Nat) (Λ : Nat → Nat → (Nat → Int32) → Int32) (Λn : Nat → Int32) (e0 mi : Nat) (U : State) : Prop := EP D8 D J o z aK aV G Ld aF Λ Λn U ∧ EQ aK aV e0 mi D J z U ∧ EnE aK aF z U ∧ ∀ (i : Nat) (C : String), castL[i]? = some C → va_Nw (.castable C "java/lang/Object") U
theorem EL.go {D8 D : va_G} {J : Nat → ClassId} {o z : Nat} {aK aV : Nat → Nat} {G Ld : Nat → Prop} {aF : Nat → Nat} {Λ : Nat → Nat → (Nat → Int32) → Int32} {Λn : Nat → Int32} {e0 mi : Nat} {s U : State} (h : EL D8 D J o z aK aV G Ld aF Λ Λn e0 mi s) (hW : s.WarmedH U.vm) (hq : ∀ q : Nat, q < s.heap.size → ¬ rC o q → U.heap[q]? = s.heap[q]?) : EL D8 D J o z aK aV G Ld aF Λ Λn e0 mi U := by
  have hz : ∀ q : Nat, q < s.heap.size → ¬ z ≤ q → U.heap[q]? = s.heap[q]? := fun q h1 h2 => hq q h1 (fun h3 => h2 (Nat.le_trans h.1.1.2.2.1 h3.1))
  exact ⟨h.1.go hW hq, h.2.1.go hW hz, h.2.2.1.go hW hz, fun i C hi => va_Nw.warmC hW (h.2.2.2 i C hi)⟩
/-- a method of the law's parser: its answer is a new object, of which Good says what it is; out says its meaning -/
def PXo {α : Type} (y : MethodName) (cd : ByteArray) (nL : Nat) (ret : Option FieldType) (fr lo : Nat) (Λ : Nat → Nat → (Nat → Int32) → Int32) (Λn : Nat → Int32) (As : Nat → List Value) (Good : va_G → (Nat → ClassId) → (Nat → Prop) → (Nat → Nat) → Nat → α → Heap → Prop) (out : (α × Cs) ⊕ Cs) (K : Kc) (σ : Cs) : Prop :=
  ∀ (l : Launch) (D8 D : va_G) (J : Nat → ClassId) (o z : Nat) (aK aV : Nat → Nat) (G Ld : Nat → Prop) (aF : Nat → Nat) (e0 mi N : Nat), l.stackTraces = false → vx_Met l y (ws_ y cd nL ret) ({ frames := fr, cells := K.1, slots := K.2, locals := lo }) (va_Pc (As o) (fun U => (U.heap.size = N ∧ o + 110 < N ∧ PC D J o Ld σ U.heap) ∧ EL D8 D J o z aK aV G Ld aF Λ Λn e0 mi U)) (va_Qq (fun (r : Option Nat) (u : (α × Cs) × Nat) => r = some u.2 ∧ out = .inl u.1) (fun u t => PC D J o Ld u.1.2 t.heap ∧ Good D J (fun q => N ≤ q) aF u.2 u.1.1 t.heap) (AP o N)) (vx_X (fun (u : Cs) => out = .inr u) (fun E u t => E = RX8 ∧ PC D J o Ld u t.heap) (AP o N)) K.1 K.2 (AP o N)
theorem PXo.of {α : Type} {y : MethodName} {cd : ByteArray} {nL fr lo : Nat} {CN : String} {Λ : Nat → Nat → (Nat → Int32) → Int32} {Λn : Nat → Int32} {As : Nat → List Value} {Good : va_G → (Nat → ClassId) → (Nat → Prop) → (Nat → Nat) → Nat → α → Heap → Prop} {out : (α × Cs) ⊕ Cs} {C : Kc} {σ : Cs} (hy : plainName y.cls = true) (hlen : ∀ o : Nat, (lg_sl (As o)).length ≤ nL)
    (body : ∀ (p : Program) (l : Launch) (e : Env) (s : State) (m : MethodId) (args : Array Value) (below : List Frame) (meth : Method) (c : Code) (D8 D : va_G) (J : Nat → ClassId) (o z : Nat) (aK aV : Nat → Nat) (G Ld : Nat → Prop) (aF : Nat → Nat) (e0 mi N : Nat) (Q : State → Prop) (ls : Array Slot), l.stackTraces = false → p.tables.exec = Jvm.exec → c.code = cd → c.maxLocals = nL → s.vm.findClass y.cls = some m.cls → (∀ w ∈ lw_all, w.before args s = true) → EL D8 D J o z aK aV G Ld aF Λ Λn e0 mi s →
      (∀ (H : Heap) (locs : List Loc) (pc : Nat) (ls : Array Slot) (cu su a : Nat) (v : α) (σ' : Cs), IP D J o Ld N s H locs σ' → Good D J (fun q => N ≤ q) aF a v H → out = .inl (v, σ') → cu ≤ C.1 → su ≤ C.2 → decode cd pc = .ok (.areturn, 1) → W p l e ({ frames := fr, cells := C.1, slots := C.2, locals := lo } : Room) s m args below meth c H locs cu su Q (F0 m pc ls [.ref a])) →
      (∀ (H : Heap) (locs : List Loc) (pc : Nat) (ls : Array Slot) (rest : List Value) (cells slots : Nat) (E : String) (ce : Cell) (q9 : Addr) (σ' : Cs), IP D J o Ld N s H locs σ' → out = .inr σ' → E = RX8 → H[q9]? = some ce → ce.vm = .none → s.vm.findClass E = some ce.cls → cells ≤ C.1 → slots ≤ C.2 → vx_W p l e ({ frames := fr, cells := C.1, slots := C.2, locals := lo } : Room) s m args below meth c H locs cells slots Q (F0 m pc ls rest) q9) →
      IP D J o Ld N s s.heap [] σ → lv_has ls nL (lv_args 0 (As o)) → W p l e ({ frames := fr, cells := C.1, slots := C.2, locals := lo } : Room) s m args below meth c s.heap [] 0 0 Q (F0 m 0 ls [])) : PXo y cd nL (some (.object CN)) fr lo Λ Λn As Good out C σ := by
  intro l D8 D J o z aK aV G Ld aF e0 mi N hst
  refine vx_ofW (cc := cd) (maxL := nL) (ret := some (.object CN)) hy rfl ?_
  intro p e s m args below meth c s₁ B hml htab hv
  obtain ⟨rfl, ⟨hN, hoN, hP⟩, hL⟩ := hv
  have hts := atoms_spec (ws := ws_ y cd nL (some (.object CN))) B.pre
  have hts : ∀ w ∈ lw_all, w.before _ s = true := fun w h => hts w (List.mem_cons_of_mem _ h)
  have hl := lv_entry (As o) (n := nL) (hlen o)
  rw [lg_entry_eq]
  generalize (lg_sl (As o) ++ List.replicate (nL - (lg_sl (As o)).length) Slot.unset).toArray = ls at hl ⊢
  have hown := findClass_of_methodNamed B.named
  refine body p l e s m _ below meth c D8 D J o z aK aV G Ld aF e0 mi N _ ls hst B.exec B.bytes hml hown hts hL (fun H locs pc ls cu su a v σ' hI hG ho hcu hsu hdg => vx_ret ?_) (fun H locs pc ls rest cells slots E ce q9 σ' hI ho hn h1 h2 h3 hc hs => ?_) ⟨hP, va_S.rf, hN, hoN⟩ hl
  · exact W.widen (k := C.1) (n := C.2) hcu hsu (W.aret B.exec B.bytes B.returns (Or.inl ⟨CN, rfl⟩) (Or.inr ⟨a, rfl⟩) (fun t ht hW => ⟨⟨some a, ((v, σ'), a), rfl, ⟨rfl, ho⟩, by show PC D J o Ld σ' t.heap ∧ Good D J (fun q => N ≤ q) aF a v t.heap; rw [ht]; exact ⟨hI.1, hG⟩⟩, hI.2.1.F ht⟩) hI.2.1.2.2 hdg B.notSynchronized)
  · exact vx_out (fun x hx => (htab x hx).elim) B.notSynchronized h1 h2 h3 (fun t ht _ => ⟨σ', ho, ⟨hn, by rw [ht]; exact hI.1⟩, hI.2.1.F ht⟩) hI.2.1.2.2 hc hs
