/-! THE PARSER: functions that answer with what they cost (cells, slots); Wrong is the one exception -/
abbrev Kc : Type := Nat × Nat
abbrev Po : Type := (Int32 × Cs) ⊕ Cs
def addc {α : Type} (k : Kc) (x : Option (α × Kc)) : Option (α × Kc) := x.bind fun r => some (r.1, (k.1 + r.2.1, k.2 + r.2.2))
theorem addc_e {α : Type} {k C : Kc} {x : Option (α × Kc)} {r : α} (h : addc k x = some (r, C)) : ∃ C' : Kc, x = some (r, C') ∧ C.1 = k.1 + C'.1 ∧ C.2 = k.2 + C'.2 := by
  obtain ⟨⟨r1, C1⟩, e, h⟩ := obd h
  cases h
  exact ⟨C1, e, rfl, rfl⟩
theorem leC {u C T : Nat} (h : u + C = T) : u ≤ T := by omega
theorem leK {u k C T : Nat} (h : u + (k + C) = T) : u + k ≤ T := by omega
def AP (o N : Nat) : Nat → Prop := fun q => rC o q ∨ N ≤ q
def EP (D8 : va_G) (D : va_G) (J : Nat → ClassId) (o z : Nat) (aK aV : Nat → Nat) (G Ld : Nat → Prop) (aF : Nat → Nat) (Λ : Nat → Nat → (Nat → Int32) → Int32) (Λn : Nat → Int32) (U : State) : Prop := ECC D J o z aK aV G Ld aF Λ Λn U ∧ SbE U ∧ WrE D8 z U
section PARS
variable {D8 D : va_G} {J : Nat → ClassId} {o z N : Nat} {aK aV aF : Nat → Nat} {G Ld : Nat → Prop} {Λ : Nat → Nat → (Nat → Int32) → Int32} {Λn : Nat → Int32} {σ σ' : Cs} {H H1 : Heap} {locs locs1 : List Loc}
theorem EP.go {s U : State} (h : EP D8 D J o z aK aV G Ld aF Λ Λn s) (hW : s.WarmedH U.vm) (hq : ∀ q : Nat, q < s.heap.size → ¬ rC o q → U.heap[q]? = s.heap[q]?) : EP D8 D J o z aK aV G Ld aF Λ Λn U :=
  ⟨h.1.go hW hq, h.2.1.go hW, h.2.2.go hW (fun q h1 h2 => hq q h1 (fun h3 => h2 (Nat.le_trans h.1.2.2.1 h3.1)))⟩
def IP (D : va_G) (J : Nat → ClassId) (o : Nat) (Ld : Nat → Prop) (N : Nat) (s : State) (H : Heap) (locs : List Loc) (σ : Cs) : Prop := PC D J o Ld σ H ∧ va_S (AP o N) s.heap H locs ∧ s.heap.size = N ∧ o + 110 < N
theorem IP.old {s : State} (hI : IP D J o Ld N s H locs σ) : ∀ q : Nat, q < s.heap.size → ¬ rC o q → H[q]? = s.heap[q]? := fun q h1 h2 => hI.2.1.2.1 q h1 (fun g => by
  rcases g with g | g
  · exact h2 g
  · have := hI.2.2.1
    omega)
theorem IP.le {s : State} (hI : IP D J o Ld N s H locs σ) : N ≤ H.size := by
  have := hI.2.1.1
  have := hI.2.2.1
  omega
theorem IP.env {s : State} (hI : IP D J o Ld N s H locs σ) (hE : ECC D J o z aK aV G Ld aF Λ Λn s) {U : State} (hU : U.heap = H) (hW : s.WarmedH U.vm) : ECC D J o z aK aV G Ld aF Λ Λn U := hE.go hW (fun q h1 h2 => by rw [hU]; exact hI.old q h1 h2)
theorem IP.envP {s : State} (hI : IP D J o Ld N s H locs σ) (hE : EP D8 D J o z aK aV G Ld aF Λ Λn s) {U : State} (hU : U.heap = H) (hW : s.WarmedH U.vm) : EP D8 D J o z aK aV G Ld aF Λ Λn U := hE.go hW (fun q h1 h2 => by rw [hU]; exact hI.old q h1 h2)
theorem IP.zS {s : State} (hI : IP D J o Ld N s H locs σ) (hE : ECC D J o z aK aV G Ld aF Λ Λn s) : va_S (zZ z) s.heap H locs := ⟨hI.2.1.1, fun q h1 h2 => hI.old q h1 (fun h3 => h2 (Nat.le_trans hE.2.2.1 h3.1)), fun l hl => by
  have hz := hE.2.2.1
  have hN := hI.2.2.2
  rcases hI.2.1.2.2 l hl with g | g
  · exact Nat.le_trans hz g.1
  · exact Nat.le_trans (by omega) g⟩
theorem IP.call {s : State} (hI : IP D J o Ld N s H locs σ) (hP : PC D J o Ld σ' H1) (hS : va_S (AP o N) s.heap H1 locs1) : IP D J o Ld N s H1 locs1 σ' := ⟨hP, hS, hI.2.2⟩
theorem AP.mono {n : Nat} (hn : N ≤ n) : ∀ q, AP o n q → AP o N q := fun q h => by
  rcases h with h | h
  · exact Or.inl h
  · exact Or.inr (Nat.le_trans hn h)
theorem IP.putW {s : State} (hI : IP D J o Ld N s H locs σ) {k : Nat} (hk : k < 5) {P a : Nat} {e0' e1 : va_E} {w' : Mm} (h0 : (ctW J (wA o k) (cl σ k) (cw σ k))[P]? = some (a, e0')) (hs : (ctW J (wA o k) (cl σ k) (cw σ k)).set P (a, e1) = ctW J (wA o k) (cl σ k) w') (hat : va_at D vwC (a, e1) H1) (hz : H1.size = H.size) (hq : ∀ q : Nat, q ≠ a → H1[q]? = H[q]?) (hl : ∀ l ∈ locs1, l ∈ locs ∨ l.base = a) : IP D J o Ld N s H1 locs1 (cwu σ k w') := by
  have hr : rW (wA o k) a := by
    have := ctW_at P _ h0
    exact ⟨by omega, by omega⟩
  refine hI.call (hI.1.setW hk ?_ (fun q _ h2 => hq q (fun e => h2 (by rw [e]; exact hr))) (fun i hi => ⟨if_neg hi, rfl⟩) ⟨rfl, rfl⟩ (fun a ha => hI.1.2.2 k hk a ha)) (va_S.one hI.2.1 (Or.inl (rW_rC hk a hr)) hz hq hl)
  rw [show cw (cwu σ k w') k = w' from if_pos rfl, show cl (cwu σ k w') k = cl σ k from rfl, ← hs]
  exact (hI.1.1 k hk).set ctW_D h0 hat hq
theorem IP.putO {s : State} (hI : IP D J o Ld N s H locs σ) {P a : Nat} {e0' e1 : va_E} (h0 : (ctO J o σ)[P]? = some (a, e0')) (hs : (ctO J o σ).set P (a, e1) = ctO J o σ') (h1 : cw σ' = cw σ ∧ cl σ' = cl σ) (hat : va_at D vwC (a, e1) H1) (hz : H1.size = H.size) (hq : ∀ q : Nat, q ≠ a → H1[q]? = H[q]?) (hl : ∀ l ∈ locs1, l ∈ locs ∨ l.base = a) : IP D J o Ld N s H1 locs1 σ' :=
  hI.call (hI.1.setO h0 hs hat hq h1) (va_S.one hI.2.1 (Or.inl (rO_rC h0)) hz hq hl)
end PARS
def PXi (y : MethodName) (cd : ByteArray) (nL : Nat) (ret : Option FieldType) (fr lo : Nat) (Λ : Nat → Nat → (Nat → Int32) → Int32) (Λn : Nat → Int32) (As : Nat → (Nat → Nat) → (Nat → Nat) → List Value) (out : Po) (C : Kc) (σ : Cs) : Prop :=
  ∀ (l : Launch) (D8 D : va_G) (J : Nat → ClassId) (o z : Nat) (aK aV : Nat → Nat) (G Ld : Nat → Prop) (aF : Nat → Nat) (N : Nat), l.stackTraces = false → vx_Met l y (ws_ y cd nL ret) ({ frames := fr, cells := C.1, slots := C.2, locals := lo }) (va_Pc (As o aK aF) (fun U => (U.heap.size = N ∧ o + 110 < N ∧ PC D J o Ld σ U.heap) ∧ EP D8 D J o z aK aV G Ld aF Λ Λn U)) (va_Qi (fun (x : Int32) (σ' : Cs) => out = .inl (x, σ')) (fun σ' t => PC D J o Ld σ' t.heap) (AP o N)) (vx_X (fun (u : Cs) => out = .inr u) (fun E u t => E = RX8 ∧ PC D J o Ld u t.heap) (AP o N)) C.1 C.2 (AP o N)
def PXv (y : MethodName) (cd : ByteArray) (nL : Nat) (ret : Option FieldType) (fr lo : Nat) (Λ : Nat → Nat → (Nat → Int32) → Int32) (Λn : Nat → Int32) (As : Nat → (Nat → Nat) → (Nat → Nat) → List Value) (out : Po) (C : Kc) (σ : Cs) : Prop :=
  ∀ (l : Launch) (D8 D : va_G) (J : Nat → ClassId) (o z : Nat) (aK aV : Nat → Nat) (G Ld : Nat → Prop) (aF : Nat → Nat) (N : Nat), l.stackTraces = false → vx_Met l y (ws_ y cd nL ret) ({ frames := fr, cells := C.1, slots := C.2, locals := lo }) (va_Pc (As o aK aF) (fun U => (U.heap.size = N ∧ o + 110 < N ∧ PC D J o Ld σ U.heap) ∧ EP D8 D J o z aK aV G Ld aF Λ Λn U)) (va_Qv (fun (σ' : Cs) => out = .inl (0, σ')) (fun σ' t => PC D J o Ld σ' t.heap) (AP o N)) (vx_X (fun (u : Cs) => out = .inr u) (fun E u t => E = RX8 ∧ PC D J o Ld u t.heap) (AP o N)) C.1 C.2 (AP o N)

theorem PXi.of {y : MethodName} {cd : ByteArray} {nL fr lo : Nat} {Λ : Nat → Nat → (Nat → Int32) → Int32} {Λn : Nat → Int32} {As : Nat → (Nat → Nat) → (Nat → Nat) → List Value} {out : Po} {C : Kc} {σ : Cs} (hy : plainName y.cls = true) (hlen : ∀ (o : Nat) (aK aF : Nat → Nat), (lg_sl (As o aK aF)).length ≤ nL)
    (body : ∀ (p : Program) (l : Launch) (e : Env) (s : State) (m : MethodId) (args : Array Value) (below : List Frame) (meth : Method) (c : Code) (D8 D : va_G) (J : Nat → ClassId) (o z : Nat) (aK aV : Nat → Nat) (G Ld : Nat → Prop) (aF : Nat → Nat) (N : Nat) (Q : State → Prop) (ls : Array Slot), l.stackTraces = false → p.tables.exec = Jvm.exec → c.code = cd → c.maxLocals = nL → s.vm.findClass y.cls = some m.cls → (∀ w ∈ lw_all, w.before args s = true) → EP D8 D J o z aK aV G Ld aF Λ Λn s →
      (∀ (H : Heap) (locs : List Loc) (pc : Nat) (ls : Array Slot) (cu su : Nat) (x : Int32) (σ' : Cs), IP D J o Ld N s H locs σ' → out = .inl (x, σ') → cu ≤ C.1 → su ≤ C.2 → decode cd pc = .ok (.ireturn, 1) → W p l e ({ frames := fr, cells := C.1, slots := C.2, locals := lo } : Room) s m args below meth c H locs cu su Q (F0 m pc ls [.int x])) →
      (∀ (H : Heap) (locs : List Loc) (pc : Nat) (ls : Array Slot) (rest : List Value) (cells slots : Nat) (E : String) (ce : Cell) (q9 : Addr) (σ' : Cs), IP D J o Ld N s H locs σ' → out = .inr σ' → E = RX8 → H[q9]? = some ce → ce.vm = .none → s.vm.findClass E = some ce.cls → cells ≤ C.1 → slots ≤ C.2 → vx_W p l e ({ frames := fr, cells := C.1, slots := C.2, locals := lo } : Room) s m args below meth c H locs cells slots Q (F0 m pc ls rest) q9) →
      IP D J o Ld N s s.heap [] σ → lv_has ls nL (lv_args 0 (As o aK aF)) → W p l e ({ frames := fr, cells := C.1, slots := C.2, locals := lo } : Room) s m args below meth c s.heap [] 0 0 Q (F0 m 0 ls [])) : PXi y cd nL (some .int) fr lo Λ Λn As out C σ := by
  intro l D8 D J o z aK aV G Ld aF N hst
  refine vx_ofW (cc := cd) (maxL := nL) (ret := some .int) hy rfl ?_
  intro p e s m args below meth c s₁ B hml htab hv
  obtain ⟨rfl, ⟨hN, hoN, hP⟩, hE⟩ := hv
  have hts := atoms_spec (ws := ws_ y cd nL (some .int)) B.pre
  have hts : ∀ w ∈ lw_all, w.before _ s = true := fun w h => hts w (List.mem_cons_of_mem _ h)
  have hl := lv_entry (As o aK aF) (n := nL) (hlen o aK aF)
  rw [lg_entry_eq]
  generalize (lg_sl (As o aK aF) ++ List.replicate (nL - (lg_sl (As o aK aF)).length) Slot.unset).toArray = ls at hl ⊢
  have hown := findClass_of_methodNamed B.named
  refine body p l e s m _ below meth c D8 D J o z aK aV G Ld aF N _ ls hst B.exec B.bytes hml hown hts hE (fun H locs pc ls cu su x σ' hI ho hcu hsu hdg => vx_ret ?_) (fun H locs pc ls rest cells slots E ce q9 σ' hI ho hn h1 h2 h3 hc hs => ?_) ⟨hP, va_S.rf, hN, hoN⟩ hl
  · exact W.widen (k := C.1) (n := C.2) hcu hsu (W.iret B.exec B.bytes B.returns (fun t ht hW => ⟨⟨x, σ', rfl, ho, by show PC D J o Ld σ' t.heap; rw [ht]; exact hI.1⟩, hI.2.1.F ht⟩) hI.2.1.2.2 hdg B.notSynchronized)
  · exact vx_out (fun x hx => (htab x hx).elim) B.notSynchronized h1 h2 h3 (fun t ht _ => ⟨σ', ho, ⟨hn, by rw [ht]; exact hI.1⟩, hI.2.1.F ht⟩) hI.2.1.2.2 hc hs
theorem PXz.of {y : MethodName} {cd : ByteArray} {nL fr lo : Nat} {Λ : Nat → Nat → (Nat → Int32) → Int32} {Λn : Nat → Int32} {As : Nat → (Nat → Nat) → (Nat → Nat) → List Value} {out : Po} {C : Kc} {σ : Cs} (hy : plainName y.cls = true) (hlen : ∀ (o : Nat) (aK aF : Nat → Nat), (lg_sl (As o aK aF)).length ≤ nL)
    (body : ∀ (p : Program) (l : Launch) (e : Env) (s : State) (m : MethodId) (args : Array Value) (below : List Frame) (meth : Method) (c : Code) (D8 D : va_G) (J : Nat → ClassId) (o z : Nat) (aK aV : Nat → Nat) (G Ld : Nat → Prop) (aF : Nat → Nat) (N : Nat) (Q : State → Prop) (ls : Array Slot), l.stackTraces = false → p.tables.exec = Jvm.exec → c.code = cd → c.maxLocals = nL → s.vm.findClass y.cls = some m.cls → (∀ w ∈ lw_all, w.before args s = true) → EP D8 D J o z aK aV G Ld aF Λ Λn s →
      (∀ (H : Heap) (locs : List Loc) (pc : Nat) (ls : Array Slot) (cu su : Nat) (x : Int32) (σ' : Cs), IP D J o Ld N s H locs σ' → out = .inl (x, σ') → (x = 0 ∨ x = 1) → cu ≤ C.1 → su ≤ C.2 → decode cd pc = .ok (.ireturn, 1) → W p l e ({ frames := fr, cells := C.1, slots := C.2, locals := lo } : Room) s m args below meth c H locs cu su Q (F0 m pc ls [.int x])) →
      (∀ (H : Heap) (locs : List Loc) (pc : Nat) (ls : Array Slot) (rest : List Value) (cells slots : Nat) (E : String) (ce : Cell) (q9 : Addr) (σ' : Cs), IP D J o Ld N s H locs σ' → out = .inr σ' → E = RX8 → H[q9]? = some ce → ce.vm = .none → s.vm.findClass E = some ce.cls → cells ≤ C.1 → slots ≤ C.2 → vx_W p l e ({ frames := fr, cells := C.1, slots := C.2, locals := lo } : Room) s m args below meth c H locs cells slots Q (F0 m pc ls rest) q9) →
      IP D J o Ld N s s.heap [] σ → lv_has ls nL (lv_args 0 (As o aK aF)) → W p l e ({ frames := fr, cells := C.1, slots := C.2, locals := lo } : Room) s m args below meth c s.heap [] 0 0 Q (F0 m 0 ls [])) : PXi y cd nL (some .boolean) fr lo Λ Λn As out C σ := by
  intro l D8 D J o z aK aV G Ld aF N hst
  refine vx_ofW (cc := cd) (maxL := nL) (ret := some .boolean) hy rfl ?_
  intro p e s m args below meth c s₁ B hml htab hv
  obtain ⟨rfl, ⟨hN, hoN, hP⟩, hE⟩ := hv
  have hts := atoms_spec (ws := ws_ y cd nL (some .boolean)) B.pre
  have hts : ∀ w ∈ lw_all, w.before _ s = true := fun w h => hts w (List.mem_cons_of_mem _ h)
  have hl := lv_entry (As o aK aF) (n := nL) (hlen o aK aF)
  rw [lg_entry_eq]
  generalize (lg_sl (As o aK aF) ++ List.replicate (nL - (lg_sl (As o aK aF)).length) Slot.unset).toArray = ls at hl ⊢
  have hown := findClass_of_methodNamed B.named
  refine body p l e s m _ below meth c D8 D J o z aK aV G Ld aF N _ ls hst B.exec B.bytes hml hown hts hE (fun H locs pc ls cu su x σ' hI ho h01 hcu hsu hdg => vx_ret ?_) (fun H locs pc ls rest cells slots E ce q9 σ' hI ho hn h1 h2 h3 hc hs => ?_) ⟨hP, va_S.rf, hN, hoN⟩ hl
  · exact W.widen (k := C.1) (n := C.2) hcu hsu (W.zret B.exec B.bytes B.returns (zb_n h01) (fun t ht hW => ⟨⟨x, σ', rfl, ho, by show PC D J o Ld σ' t.heap; rw [ht]; exact hI.1⟩, hI.2.1.F ht⟩) hI.2.1.2.2 hdg B.notSynchronized)
  · exact vx_out (fun x hx => (htab x hx).elim) B.notSynchronized h1 h2 h3 (fun t ht _ => ⟨σ', ho, ⟨hn, by rw [ht]; exact hI.1⟩, hI.2.1.F ht⟩) hI.2.1.2.2 hc hs
theorem PXv.of {y : MethodName} {cd : ByteArray} {nL fr lo : Nat} {Λ : Nat → Nat → (Nat → Int32) → Int32} {Λn : Nat → Int32} {As : Nat → (Nat → Nat) → (Nat → Nat) → List Value} {out : Po} {C : Kc} {σ : Cs} (hy : plainName y.cls = true) (hlen : ∀ (o : Nat) (aK aF : Nat → Nat), (lg_sl (As o aK aF)).length ≤ nL)
    (body : ∀ (p : Program) (l : Launch) (e : Env) (s : State) (m : MethodId) (args : Array Value) (below : List Frame) (meth : Method) (c : Code) (D8 D : va_G) (J : Nat → ClassId) (o z : Nat) (aK aV : Nat → Nat) (G Ld : Nat → Prop) (aF : Nat → Nat) (N : Nat) (Q : State → Prop) (ls : Array Slot), l.stackTraces = false → p.tables.exec = Jvm.exec → c.code = cd → c.maxLocals = nL → s.vm.findClass y.cls = some m.cls → (∀ w ∈ lw_all, w.before args s = true) → EP D8 D J o z aK aV G Ld aF Λ Λn s →
      (∀ (H : Heap) (locs : List Loc) (pc : Nat) (ls : Array Slot) (cu su : Nat) (σ' : Cs), IP D J o Ld N s H locs σ' → out = .inl (0, σ') → cu ≤ C.1 → su ≤ C.2 → decode cd pc = .ok (.return_, 1) → W p l e ({ frames := fr, cells := C.1, slots := C.2, locals := lo } : Room) s m args below meth c H locs cu su Q (F0 m pc ls [])) →
      (∀ (H : Heap) (locs : List Loc) (pc : Nat) (ls : Array Slot) (rest : List Value) (cells slots : Nat) (E : String) (ce : Cell) (q9 : Addr) (σ' : Cs), IP D J o Ld N s H locs σ' → out = .inr σ' → E = RX8 → H[q9]? = some ce → ce.vm = .none → s.vm.findClass E = some ce.cls → cells ≤ C.1 → slots ≤ C.2 → vx_W p l e ({ frames := fr, cells := C.1, slots := C.2, locals := lo } : Room) s m args below meth c H locs cells slots Q (F0 m pc ls rest) q9) →
      IP D J o Ld N s s.heap [] σ → lv_has ls nL (lv_args 0 (As o aK aF)) → W p l e ({ frames := fr, cells := C.1, slots := C.2, locals := lo } : Room) s m args below meth c s.heap [] 0 0 Q (F0 m 0 ls [])) : PXv y cd nL (none) fr lo Λ Λn As out C σ := by
  intro l D8 D J o z aK aV G Ld aF N hst
  refine vx_ofW (cc := cd) (maxL := nL) (ret := none) hy rfl ?_
  intro p e s m args below meth c s₁ B hml htab hv
  obtain ⟨rfl, ⟨hN, hoN, hP⟩, hE⟩ := hv
  have hts := atoms_spec (ws := ws_ y cd nL (none)) B.pre
  have hts : ∀ w ∈ lw_all, w.before _ s = true := fun w h => hts w (List.mem_cons_of_mem _ h)
  have hl := lv_entry (As o aK aF) (n := nL) (hlen o aK aF)
  rw [lg_entry_eq]
  generalize (lg_sl (As o aK aF) ++ List.replicate (nL - (lg_sl (As o aK aF)).length) Slot.unset).toArray = ls at hl ⊢
  have hown := findClass_of_methodNamed B.named
  refine body p l e s m _ below meth c D8 D J o z aK aV G Ld aF N _ ls hst B.exec B.bytes hml hown hts hE (fun H locs pc ls cu su σ' hI ho hcu hsu hdg => vx_ret ?_) (fun H locs pc ls rest cells slots E ce q9 σ' hI ho hn h1 h2 h3 hc hs => ?_) ⟨hP, va_S.rf, hN, hoN⟩ hl
  · exact W.widen (k := C.1) (n := C.2) hcu hsu (W.vret B.exec B.bytes B.returns (fun t ht hW => ⟨⟨σ', rfl, ho, by show PC D J o Ld σ' t.heap; rw [ht]; exact hI.1⟩, hI.2.1.F ht⟩) hI.2.1.2.2 hdg B.notSynchronized)
  · exact vx_out (fun x hx => (htab x hx).elim) B.notSynchronized h1 h2 h3 (fun t ht _ => ⟨σ', ho, ⟨hn, by rw [ht]; exact hI.1⟩, hI.2.1.F ht⟩) hI.2.1.2.2 hc hs

section PCALLS
variable {p : Program} {l : Launch} {e : Env} {R : Room} {s : State} {m : MethodId} {args : Array Value} {below : List Frame} {meth : Method} {c : Code} {H : Heap} {locs : List Loc} {cells slots : Nat} {Q : State → Prop}
variable {cc : ByteArray} {pc : Nat} {ls : Array Slot} {rest : List Value} {D : va_G} {J : Nat → ClassId} {o z : Nat} {aK aV : Nat → Nat} {G Ld : Nat → Prop} {N9 : Nat} {D8 : va_G} {aF : Nat → Nat} {Λ : Nat → Nat → (Nat → Int32) → Int32} {Λn : Nat → Int32} {σ σ' : Cs}

theorem pccallI (hx : p.tables.exec = Jvm.exec) (hb : c.code = cc) (hts : ∀ w ∈ lw_all, w.before args s = true) {own : String} (hown : s.vm.findClass own = some m.cls) (hE : ECC D J o z aK aV G Ld aF Λ Λn s) (hI : IP D J o Ld N9 s H locs σ) {nL : Nat} (hml : c.maxLocals = nL) (hlsz : ls.size = nL)
    {y : MethodName} {cd : ByteArray} {nL' fr lo n index b ci N : Nat} {fs : List Value} {C : String} {T : u_T} {ret : Option FieldType} {As : Nat → (Nat → Nat) → (Nat → Nat) → List Value} {As' : List Value} {r : Int32} (hM : CMi y cd nL' ret fr lo Λ Λn As r σ σ') (cwl : CallW R s args own C index y cd nL' ret (ws_ y cd nL' ret) ({ frames := fr, cells := 0, slots := 0, locals := lo }) 0 0 n) (hat : va_at D vwC (b, .inr (ci, fs)) H) (hcl : vwC[ci]? = some (C, T, N)) (hAs : As o aK aF = .ref b :: As')
    (hc : cells ≤ R.cells ∧ slots ≤ R.slots) (hn : As'.length = n) {st : List Value} (hst : st = As'.reverse ++ .ref b :: rest) (hW : 2 * (F0 m pc ls st).monitorRoom + (rest.map fun v => v.category).sum ≤ 8) (hdg : decode cc pc = .ok (.invokevirtual index, 3))
    (kk : ∀ (H1 : Heap) (locs1 : List Loc), IP D J o Ld N9 s H1 locs1 σ' → W p l e R s m args below meth c H1 locs1 cells slots Q (F0 m (pc + 3) ls (.int r :: rest))) : W p l e R s m args below meth c H locs cells slots Q (F0 m pc ls st) := by
  have hM := hM l D J o z aK aV G Ld aF
  rw [hAs] at hM
  refine va_calli (va_runV (As := As') (rest := rest) ⟨hx, hb, hml, hown, hts⟩ hM cwl ⟨fun a U g mk q => ?_, g_recv hE.1.1 hat hcl, fun U hU hW => ⟨rfl, by rw [hU]; exact hI.1, hI.env hE hU hW⟩⟩ rfl hn hlsz hst hW hdg ⟨hc.1, hc.2⟩) hI.2.1 (fun q _ h => Or.inl h) (fun q h => Or.inl h) (fun r' u t H1 locs1 ht hvm hp hB hz1 hk1 hS => ?_)
  · obtain ⟨q0, qP, qE⟩ := q
    exact ⟨q0, qP, qE.go (State.WarmedH.refl U) (fun _ _ _ => rfl)⟩
  · have hr' : r' = r := hp
    subst hr'
    exact kk H1 locs1 (hI.call (by rw [← ht]; exact hB) hS)

theorem pccallV (hx : p.tables.exec = Jvm.exec) (hb : c.code = cc) (hts : ∀ w ∈ lw_all, w.before args s = true) {own : String} (hown : s.vm.findClass own = some m.cls) (hE : ECC D J o z aK aV G Ld aF Λ Λn s) (hI : IP D J o Ld N9 s H locs σ) {nL : Nat} (hml : c.maxLocals = nL) (hlsz : ls.size = nL)
    {y : MethodName} {cd : ByteArray} {nL' fr lo n index b ci N : Nat} {fs : List Value} {C : String} {T : u_T} {ret : Option FieldType} {As : Nat → (Nat → Nat) → (Nat → Nat) → List Value} {As' : List Value} (hM : CMv y cd nL' ret fr lo Λ Λn As σ σ') (cwl : CallW R s args own C index y cd nL' ret (ws_ y cd nL' ret) ({ frames := fr, cells := 0, slots := 0, locals := lo }) 0 0 n) (hat : va_at D vwC (b, .inr (ci, fs)) H) (hcl : vwC[ci]? = some (C, T, N)) (hAs : As o aK aF = .ref b :: As')
    (hc : cells ≤ R.cells ∧ slots ≤ R.slots) (hn : As'.length = n) {st : List Value} (hst : st = As'.reverse ++ .ref b :: rest) (hW : 2 * (F0 m pc ls st).monitorRoom + (rest.map fun v => v.category).sum ≤ 8) (hdg : decode cc pc = .ok (.invokevirtual index, 3))
    (kk : ∀ (H1 : Heap) (locs1 : List Loc), IP D J o Ld N9 s H1 locs1 σ' → W p l e R s m args below meth c H1 locs1 cells slots Q (F0 m (pc + 3) ls (rest))) : W p l e R s m args below meth c H locs cells slots Q (F0 m pc ls st) := by
  have hM := hM l D J o z aK aV G Ld aF
  rw [hAs] at hM
  refine va_callv (va_runV (As := As') (rest := rest) ⟨hx, hb, hml, hown, hts⟩ hM cwl ⟨fun a U g mk q => ?_, g_recv hE.1.1 hat hcl, fun U hU hW => ⟨rfl, by rw [hU]; exact hI.1, hI.env hE hU hW⟩⟩ rfl hn hlsz hst hW hdg ⟨hc.1, hc.2⟩) hI.2.1 (fun q _ h => Or.inl h) (fun q h => Or.inl h) (fun u t H1 locs1 ht hvm hp hB hz1 hk1 hS => ?_)
  · obtain ⟨q0, qP, qE⟩ := q
    exact ⟨q0, qP, qE.go (State.WarmedH.refl U) (fun _ _ _ => rfl)⟩
  · exact kk H1 locs1 (hI.call (by rw [← ht]; exact hB) hS)

theorem pccallR (hx : p.tables.exec = Jvm.exec) (hb : c.code = cc) (hts : ∀ w ∈ lw_all, w.before args s = true) {own : String} (hown : s.vm.findClass own = some m.cls) (hE : ECC D J o z aK aV G Ld aF Λ Λn s) (hI : IP D J o Ld N9 s H locs σ) {nL : Nat} (hml : c.maxLocals = nL) (hlsz : ls.size = nL)
    {y : MethodName} {cd : ByteArray} {nL' fr lo n index b ci N : Nat} {fs : List Value} {C : String} {T : u_T} {ret : Option FieldType} {As : Nat → (Nat → Nat) → (Nat → Nat) → List Value} {As' : List Value} {r : Nat → Nat} (hM : CMr y cd nL' ret fr lo Λ Λn As r σ σ') (cwl : CallW R s args own C index y cd nL' ret (ws_ y cd nL' ret) ({ frames := fr, cells := 0, slots := 0, locals := lo }) 0 0 n) (hat : va_at D vwC (b, .inr (ci, fs)) H) (hcl : vwC[ci]? = some (C, T, N)) (hAs : As o aK aF = .ref b :: As')
    (hc : cells ≤ R.cells ∧ slots ≤ R.slots) (hn : As'.length = n) {st : List Value} (hst : st = As'.reverse ++ .ref b :: rest) (hW : 2 * (F0 m pc ls st).monitorRoom + (rest.map fun v => v.category).sum ≤ 8) (hdg : decode cc pc = .ok (.invokevirtual index, 3))
    (kk : ∀ (H1 : Heap) (locs1 : List Loc), IP D J o Ld N9 s H1 locs1 σ' → W p l e R s m args below meth c H1 locs1 cells slots Q (F0 m (pc + 3) ls (.ref (r o) :: rest))) : W p l e R s m args below meth c H locs cells slots Q (F0 m pc ls st) := by
  have hM := hM l D J o z aK aV G Ld aF
  rw [hAs] at hM
  refine va_callr (va_runV (As := As') (rest := rest) ⟨hx, hb, hml, hown, hts⟩ hM cwl ⟨fun a U g mk q => ?_, g_recv hE.1.1 hat hcl, fun U hU hW => ⟨rfl, by rw [hU]; exact hI.1, hI.env hE hU hW⟩⟩ rfl hn hlsz hst hW hdg ⟨hc.1, hc.2⟩) hI.2.1 (fun q _ h => Or.inl h) (fun q h => Or.inl h) (fun a u t H1 locs1 ht hvm hp hB hz1 hk1 hS => ?_)
  · obtain ⟨q0, qP, qE⟩ := q
    exact ⟨q0, qP, qE.go (State.WarmedH.refl U) (fun _ _ _ => rfl)⟩
  · obtain ⟨ha, hB⟩ := hB
    subst ha
    exact kk H1 locs1 (hI.call (by rw [← ht]; exact hB) hS)

theorem pcworldI (hx : p.tables.exec = Jvm.exec) (hb : c.code = cc) (hts : ∀ w ∈ lw_all, w.before args s = true) {own : String} (hown : s.vm.findClass own = some m.cls) (hE : ECC D J o z aK aV G Ld aF Λ Λn s) (hI : IP D J o Ld N9 s H locs σ) {nL : Nat} (hml : c.maxLocals = nL) (hlsz : ls.size = nL)
    {y : MethodName} {cd : ByteArray} {nL' fr lo n index k : Nat} {ret : Option FieldType} {As : (Nat → Nat) → List Value} {w' : Mm} {r : Int32} (hM : WMi y cd nL' ret fr lo As r (cw σ k) w') (hk : k < 5) (cwl : CallW R s args own RX2 index y cd nL' ret (ws_ y cd nL' ret) ({ frames := fr, cells := 0, slots := 0, locals := lo }) 0 0 n) (hσ : some (cwu σ k w') = some σ')
    (hc : cells ≤ R.cells ∧ slots ≤ R.slots) (hn : (As aK).length = n) {st : List Value} (hst : st = (As aK).reverse ++ .ref (wA o k) :: rest) (hW : 2 * (F0 m pc ls st).monitorRoom + (rest.map fun v => v.category).sum ≤ 8) (hdg : decode cc pc = .ok (.invokevirtual index, 3))
    (kk : ∀ (H1 : Heap) (locs1 : List Loc), IP D J o Ld N9 s H1 locs1 σ' → W p l e R s m args below meth c H1 locs1 cells slots Q (F0 m (pc + 3) ls (.int r :: rest))) : W p l e R s m args below meth c H locs cells slots Q (F0 m pc ls st) := by
  cases hσ
  refine va_calli (va_runV (As := As aK) (rest := rest) ⟨hx, hb, hml, hown, hts⟩ (hM l D J (wA o k) z (cl σ k) aK aV (Nat.le_trans hE.2.2.1 (Nat.le_add_right _ _))) cwl ⟨fun a U g mk q => ?_, g_recv hE.1.1 (hI.1.w k hk 0 rfl) rfl, fun U hU hW => ⟨rfl, by rw [hU]; exact hI.1.1 k hk, (hI.env hE hU hW).1⟩⟩ rfl hn hlsz hst hW hdg ⟨hc.1, hc.2⟩) hI.2.1 (fun q _ h => Or.inl (rW_rC hk q h)) (fun q h => Or.inl (rW_rC hk q h)) (fun r' u t H1 locs1 ht hvm hp hB hz1 hk1 hS => ?_)
  · obtain ⟨q0, qP, qE⟩ := q
    exact ⟨q0, qP, qE.go (State.WarmedH.refl U) (fun _ _ _ => rfl)⟩
  · have hr' : r' = r := hp
    subst hr'
    exact kk H1 locs1 (hI.call (hI.1.setW hk (by rw [show cw (cwu σ k w') k = w' from if_pos rfl, ← ht]; exact hB) hk1 (fun i hi => ⟨if_neg hi, rfl⟩) ⟨rfl, rfl⟩ (fun a ha => hI.1.2.2 k hk a ha)) hS)

theorem pcworldV (hx : p.tables.exec = Jvm.exec) (hb : c.code = cc) (hts : ∀ w ∈ lw_all, w.before args s = true) {own : String} (hown : s.vm.findClass own = some m.cls) (hE : ECC D J o z aK aV G Ld aF Λ Λn s) (hI : IP D J o Ld N9 s H locs σ) {nL : Nat} (hml : c.maxLocals = nL) (hlsz : ls.size = nL)
    {y : MethodName} {cd : ByteArray} {nL' fr lo n index k : Nat} {ret : Option FieldType} {As : (Nat → Nat) → List Value} {w' : Mm} (hM : WMv y cd nL' ret fr lo As (cw σ k) w') (hk : k < 5) (cwl : CallW R s args own RX2 index y cd nL' ret (ws_ y cd nL' ret) ({ frames := fr, cells := 0, slots := 0, locals := lo }) 0 0 n) (hσ : some (cwu σ k w') = some σ')
    (hc : cells ≤ R.cells ∧ slots ≤ R.slots) (hn : (As aK).length = n) {st : List Value} (hst : st = (As aK).reverse ++ .ref (wA o k) :: rest) (hW : 2 * (F0 m pc ls st).monitorRoom + (rest.map fun v => v.category).sum ≤ 8) (hdg : decode cc pc = .ok (.invokevirtual index, 3))
    (kk : ∀ (H1 : Heap) (locs1 : List Loc), IP D J o Ld N9 s H1 locs1 σ' → W p l e R s m args below meth c H1 locs1 cells slots Q (F0 m (pc + 3) ls (rest))) : W p l e R s m args below meth c H locs cells slots Q (F0 m pc ls st) := by
  cases hσ
  refine va_callv (va_runV (As := As aK) (rest := rest) ⟨hx, hb, hml, hown, hts⟩ (hM l D J (wA o k) z (cl σ k) aK aV (Nat.le_trans hE.2.2.1 (Nat.le_add_right _ _))) cwl ⟨fun a U g mk q => ?_, g_recv hE.1.1 (hI.1.w k hk 0 rfl) rfl, fun U hU hW => ⟨rfl, by rw [hU]; exact hI.1.1 k hk, (hI.env hE hU hW).1⟩⟩ rfl hn hlsz hst hW hdg ⟨hc.1, hc.2⟩) hI.2.1 (fun q _ h => Or.inl (rW_rC hk q h)) (fun q h => Or.inl (rW_rC hk q h)) (fun u t H1 locs1 ht hvm hp hB hz1 hk1 hS => ?_)
  · obtain ⟨q0, qP, qE⟩ := q
    exact ⟨q0, qP, qE.go (State.WarmedH.refl U) (fun _ _ _ => rfl)⟩
  · exact kk H1 locs1 (hI.call (hI.1.setW hk (by rw [show cw (cwu σ k w') k = w' from if_pos rfl, ← ht]; exact hB) hk1 (fun i hi => ⟨if_neg hi, rfl⟩) ⟨rfl, rfl⟩ (fun a ha => hI.1.2.2 k hk a ha)) hS)

theorem pcallI (hx : p.tables.exec = Jvm.exec) (hb : c.code = cc) (hts : ∀ w ∈ lw_all, w.before args s = true) (hst : l.stackTraces = false) {own : String} (hown : s.vm.findClass own = some m.cls) (hE : EP D8 D J o z aK aV G Ld aF Λ Λn s) (hI : IP D J o Ld N9 s H locs σ) {nL : Nat} (hml : c.maxLocals = nL) (hlsz : ls.size = nL)
    {y : MethodName} {cd : ByteArray} {nL' fr lo n index b ci N : Nat} {fs : List Value} {C : String} {T : u_T} {ret : Option FieldType} {As : Nat → (Nat → Nat) → (Nat → Nat) → List Value} {As' : List Value} {out : Po} {K : Kc} (hM : PXi y cd nL' ret fr lo Λ Λn As out K σ) (cwl : CallW R s args own C index y cd nL' ret (ws_ y cd nL' ret) ({ frames := fr, cells := K.1, slots := K.2, locals := lo }) K.1 K.2 n) (hat : va_at D vwC (b, .inr (ci, fs)) H) (hcl : vwC[ci]? = some (C, T, N)) (hAs : As o aK aF = .ref b :: As')
    (hc : cells + K.1 ≤ R.cells ∧ slots + K.2 ≤ R.slots) (hn : As'.length = n) {st : List Value} (hst0 : st = As'.reverse ++ .ref b :: rest) (hW : 2 * (F0 m pc ls st).monitorRoom + (rest.map fun v => v.category).sum ≤ 8) (hdg : decode cc pc = .ok (.invokevirtual index, 3))
    (kx : ∀ (E : String) (ce : Cell) (q9 : Addr) (σ' : Cs) (H1 : Heap) (locs1 : List Loc), out = .inr σ' → E = RX8 → IP D J o Ld N9 s H1 locs1 σ' → H1[q9]? = some ce → ce.vm = .none → s.vm.findClass E = some ce.cls → vx_W p l e R s m args below meth c H1 locs1 (cells + K.1) (slots + K.2) Q (F0 m pc ls rest) q9)
    (kk : ∀ (v : Int32 × Cs) (H1 : Heap) (locs1 : List Loc), out = .inl v → IP D J o Ld N9 s H1 locs1 v.2 → W p l e R s m args below meth c H1 locs1 (cells + K.1) (slots + K.2) Q (F0 m (pc + 3) ls (.int v.1 :: rest))) : W p l e R s m args below meth c H locs cells slots Q (F0 m pc ls st) := by
  have hM := hM l D8 D J o z aK aV G Ld aF H.size hst
  rw [hAs] at hM
  refine vx_calli (vx_runV (As := As') (rest := rest) ⟨hx, hb, hml, hown, hts⟩ hM cwl ⟨fun a U g mk q => ?_, g_recv hE.1.1.1 hat hcl, fun U hU hW => ⟨rfl, ⟨by rw [hU], Nat.lt_of_lt_of_le hI.2.2.2 hI.le, by rw [hU]; exact hI.1⟩, hI.envP hE hU hW⟩⟩ rfl hn hlsz hst0 hW hdg ⟨hc.1, hc.2⟩) hI.2.1 (fun q _ h => AP.mono hI.le q h) (fun q h => AP.mono hI.le q h) (fun q _ h => AP.mono hI.le q h) (fun E ce q9 u t H1 locs1 ht hvm hp hB hz1 hk1 hS h1 h2 h3 => ?_) (fun r u t H1 locs1 ht hvm hp hB hz1 hk1 hS => ?_)
  · exact ⟨q.1, q.2.1, q.2.2.go (State.WarmedH.refl U) (fun _ _ _ => rfl)⟩
  · exact kx E ce q9 u H1 locs1 hp hB.1 (hI.call (by rw [← ht]; exact hB.2) hS) h1 h2 h3
  · exact kk (r, u) H1 locs1 hp (hI.call (by rw [← ht]; exact hB) hS)

theorem pcallV (hx : p.tables.exec = Jvm.exec) (hb : c.code = cc) (hts : ∀ w ∈ lw_all, w.before args s = true) (hst : l.stackTraces = false) {own : String} (hown : s.vm.findClass own = some m.cls) (hE : EP D8 D J o z aK aV G Ld aF Λ Λn s) (hI : IP D J o Ld N9 s H locs σ) {nL : Nat} (hml : c.maxLocals = nL) (hlsz : ls.size = nL)
    {y : MethodName} {cd : ByteArray} {nL' fr lo n index b ci N : Nat} {fs : List Value} {C : String} {T : u_T} {ret : Option FieldType} {As : Nat → (Nat → Nat) → (Nat → Nat) → List Value} {As' : List Value} {out : Po} {K : Kc} (hM : PXv y cd nL' ret fr lo Λ Λn As out K σ) (cwl : CallW R s args own C index y cd nL' ret (ws_ y cd nL' ret) ({ frames := fr, cells := K.1, slots := K.2, locals := lo }) K.1 K.2 n) (hat : va_at D vwC (b, .inr (ci, fs)) H) (hcl : vwC[ci]? = some (C, T, N)) (hAs : As o aK aF = .ref b :: As')
    (hc : cells + K.1 ≤ R.cells ∧ slots + K.2 ≤ R.slots) (hn : As'.length = n) {st : List Value} (hst0 : st = As'.reverse ++ .ref b :: rest) (hW : 2 * (F0 m pc ls st).monitorRoom + (rest.map fun v => v.category).sum ≤ 8) (hdg : decode cc pc = .ok (.invokevirtual index, 3))
    (kx : ∀ (E : String) (ce : Cell) (q9 : Addr) (σ' : Cs) (H1 : Heap) (locs1 : List Loc), out = .inr σ' → E = RX8 → IP D J o Ld N9 s H1 locs1 σ' → H1[q9]? = some ce → ce.vm = .none → s.vm.findClass E = some ce.cls → vx_W p l e R s m args below meth c H1 locs1 (cells + K.1) (slots + K.2) Q (F0 m pc ls rest) q9)
    (kk : ∀ (v : Int32 × Cs) (H1 : Heap) (locs1 : List Loc), out = .inl v → IP D J o Ld N9 s H1 locs1 v.2 → W p l e R s m args below meth c H1 locs1 (cells + K.1) (slots + K.2) Q (F0 m (pc + 3) ls (rest))) : W p l e R s m args below meth c H locs cells slots Q (F0 m pc ls st) := by
  have hM := hM l D8 D J o z aK aV G Ld aF H.size hst
  rw [hAs] at hM
  refine vx_callv (vx_runV (As := As') (rest := rest) ⟨hx, hb, hml, hown, hts⟩ hM cwl ⟨fun a U g mk q => ?_, g_recv hE.1.1.1 hat hcl, fun U hU hW => ⟨rfl, ⟨by rw [hU], Nat.lt_of_lt_of_le hI.2.2.2 hI.le, by rw [hU]; exact hI.1⟩, hI.envP hE hU hW⟩⟩ rfl hn hlsz hst0 hW hdg ⟨hc.1, hc.2⟩) hI.2.1 (fun q _ h => AP.mono hI.le q h) (fun q h => AP.mono hI.le q h) (fun q _ h => AP.mono hI.le q h) (fun E ce q9 u t H1 locs1 ht hvm hp hB hz1 hk1 hS h1 h2 h3 => ?_) (fun u t H1 locs1 ht hvm hp hB hz1 hk1 hS => ?_)
  · exact ⟨q.1, q.2.1, q.2.2.go (State.WarmedH.refl U) (fun _ _ _ => rfl)⟩
  · exact kx E ce q9 u H1 locs1 hp hB.1 (hI.call (by rw [← ht]; exact hB.2) hS) h1 h2 h3
  · exact kk (0, u) H1 locs1 hp (hI.call (by rw [← ht]; exact hB) hS)

/-- throw reader.wrong() -/
theorem pwrong (hx : p.tables.exec = Jvm.exec) (hb : c.code = cc) (hts : ∀ w ∈ lw_all, w.before args s = true) (hst : l.stackTraces = false) {own : String} (hown : s.vm.findClass own = some m.cls) (hE : EP D8 D J o z aK aV G Ld aF Λ Λn s) (hI : IP D J o Ld N9 s H locs σ) {nL : Nat} (hml : c.maxLocals = nL) (hlsz : ls.size = nL)
    {i73 : Nat} (cwl : CallW R s args own RX3 i73 yX3_wrong cX3_wrong 1 (some (.object "LateInks$Wrong")) (ws_ yX3_wrong cX3_wrong 1 (some (.object "LateInks$Wrong"))) ({ frames := 4, cells := 1, slots := 6, locals := 300 }) 1 6 0)
    (hc : cells + 1 ≤ R.cells ∧ slots + 6 ≤ R.slots) (hW : 2 * (F0 m pc ls (.ref (o + 61) :: rest)).monitorRoom + (rest.map fun v => v.category).sum ≤ 8) (hdg : decode cc pc = .ok (.invokevirtual i73, 3)) (hdg2 : decode cc (pc + 3) = .ok (.athrow, 1))
    (kx : ∀ (E : String) (ce : Cell) (q9 : Addr) (H1 : Heap) (locs1 : List Loc), E = RX8 → IP D J o Ld N9 s H1 locs1 σ → H1[q9]? = some ce → ce.vm = .none → s.vm.findClass E = some ce.cls → vx_W p l e R s m args below meth c H1 locs1 (cells + 1) (slots + 6) Q (F0 m (pc + 3) ls rest) q9) : W p l e R s m args below meth c H locs cells slots Q (F0 m pc ls (.ref (o + 61) :: rest)) := by
  have hz := hE.1.2.2.1
  have hN := hI.2.2.2
  have hle := hI.le
  refine va_callr (va_runV (As := []) (rest := rest) ⟨hx, hb, hml, hown, hts⟩ (mX3_wrong l D8 z (o + 61) H.size (by omega)) cwl ⟨fun a U g mk q => ⟨q.1, q.2.1, q.2.2.go (State.WarmedH.refl U) (fun _ _ _ => rfl)⟩, g_recv hE.1.1.1 (hI.1.o 1 rfl) rfl, fun U hU hW => ⟨rfl, by rw [hU], (hI.envP hE hU hW).2.2⟩⟩ rfl rfl hlsz rfl hW hdg ⟨hc.1, hc.2⟩) hI.2.1 (fun q _ h => Or.inr (Nat.le_trans hle h)) (fun q h => Or.inr (Nat.le_trans hle h)) (fun u a t H1 locs1 ht hvm hp hB hz1 hk1 hS => ?_)
  obtain ⟨ha, hB⟩ := hB
  rw [ht] at hB
  subst ha
  refine vx_athrow hx hb hdg2 ?_
  obtain ⟨r, h1, cell, q1, q2, q3, q4⟩ := hB
  cases h1
  refine kx RX8 cell _ H1 locs1 rfl (hI.call (hI.1.kept (fun q h _ => hk1 q h (by show ¬ H.size ≤ q; omega))) hS) q1 q3 ?_
  obtain ⟨hS8, hat8⟩ := hE.2.2.1.1 0 _ rfl
  rw [q2]
  exact hat8.1

end PCALLS