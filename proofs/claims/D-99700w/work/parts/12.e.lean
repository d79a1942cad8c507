/-! THE COMPONENT'S METHODS THAT MAY THROW: out = .inl (answer, state) or .inr (exception, state); a method without an answer says 0 -/
abbrev Xo : Type := (Int32 × Cs) ⊕ (Nat × Cs)
theorem oelN {A B : Type} {b : B} {f : A → B} {r : B} (h : Option.elim (none : Option A) b f = r) : b = r := h
theorem oelS {A B : Type} {x : A} {b : B} {f : A → B} {r : B} (h : Option.elim (some x) b f = r) : f x = r := h
theorem selL {A B C : Type} {x : A} {f : A → C} {g : B → C} {r : C} (h : Sum.elim f g (.inl x : A ⊕ B) = r) : f x = r := h
theorem selR {A B C : Type} {x : B} {f : A → C} {g : B → C} {r : C} (h : Sum.elim f g (.inr x : A ⊕ B) = r) : g x = r := h
def ECX (D : va_G) (J : Nat → ClassId) (o z : Nat) (aK aV : Nat → Nat) (G Ld : Nat → Prop) (aF : Nat → Nat) (Λ : Nat → Nat → (Nat → Int32) → Int32) (Λn : Nat → Int32) (U : State) : Prop := ECC D J o z aK aV G Ld aF Λ Λn U ∧ ThrE z U
theorem ECX.go {D : va_G} {J : Nat → ClassId} {o z : Nat} {aK aV : Nat → Nat} {G Ld : Nat → Prop} {aF : Nat → Nat} {Λ : Nat → Nat → (Nat → Int32) → Int32} {Λn : Nat → Int32} {s U : State} (h : ECX D J o z aK aV G Ld aF Λ Λn s) (hW : s.WarmedH U.vm) (hq : ∀ q : Nat, q < s.heap.size → ¬ rC o q → U.heap[q]? = s.heap[q]?) : ECX D J o z aK aV G Ld aF Λ Λn U :=
  ⟨h.1.go hW hq, h.2.go hW (fun q h1 h2 => hq q h1 (fun h3 => h2 (Nat.le_trans h.1.2.2.1 h3.1)))⟩
def CXi (y : MethodName) (cd : ByteArray) (nL : Nat) (ret : Option FieldType) (fr lo mc ms : Nat) (Λ : Nat → Nat → (Nat → Int32) → Int32) (Λn : Nat → Int32) (As : Nat → (Nat → Nat) → (Nat → Nat) → List Value) (out : Xo) (σ : Cs) : Prop :=
  ∀ (l : Launch) (D : va_G) (J : Nat → ClassId) (o z : Nat) (aK aV : Nat → Nat) (G Ld : Nat → Prop) (aF : Nat → Nat), l.stackTraces = false → vx_Met l y (ws_ y cd nL ret) ({ frames := fr, cells := mc, slots := ms, locals := lo }) (va_Pc (As o aK aF) (fun U => PC D J o Ld σ U.heap ∧ ECX D J o z aK aV G Ld aF Λ Λn U)) (va_Qi (fun (x : Int32) (σ' : Cs) => out = .inl (x, σ')) (fun σ' t => PC D J o Ld σ' t.heap) (rC o)) (vx_X (fun (u : Nat × Cs) => out = .inr u) (fun E u t => E = exN u.1 ∧ PC D J o Ld u.2 t.heap) (rC o)) mc ms (rC o)
def CXv (y : MethodName) (cd : ByteArray) (nL : Nat) (ret : Option FieldType) (fr lo mc ms : Nat) (Λ : Nat → Nat → (Nat → Int32) → Int32) (Λn : Nat → Int32) (As : Nat → (Nat → Nat) → (Nat → Nat) → List Value) (out : Xo) (σ : Cs) : Prop :=
  ∀ (l : Launch) (D : va_G) (J : Nat → ClassId) (o z : Nat) (aK aV : Nat → Nat) (G Ld : Nat → Prop) (aF : Nat → Nat), l.stackTraces = false → vx_Met l y (ws_ y cd nL ret) ({ frames := fr, cells := mc, slots := ms, locals := lo }) (va_Pc (As o aK aF) (fun U => PC D J o Ld σ U.heap ∧ ECX D J o z aK aV G Ld aF Λ Λn U)) (va_Qv (fun (σ' : Cs) => out = .inl (0, σ')) (fun σ' t => PC D J o Ld σ' t.heap) (rC o)) (vx_X (fun (u : Nat × Cs) => out = .inr u) (fun E u t => E = exN u.1 ∧ PC D J o Ld u.2 t.heap) (rC o)) mc ms (rC o)
theorem CXi.of {y : MethodName} {cd : ByteArray} {nL fr lo mc ms : Nat} {Λ : Nat → Nat → (Nat → Int32) → Int32} {Λn : Nat → Int32} {As : Nat → (Nat → Nat) → (Nat → Nat) → List Value} {out : Xo} {σ : Cs} (hy : plainName y.cls = true) (hlen : ∀ (o : Nat) (aK aF : Nat → Nat), (lg_sl (As o aK aF)).length ≤ nL)
    (body : ∀ (p : Program) (l : Launch) (e : Env) (s : State) (m : MethodId) (args : Array Value) (below : List Frame) (meth : Method) (c : Code) (D : va_G) (J : Nat → ClassId) (o z : Nat) (aK aV : Nat → Nat) (G Ld : Nat → Prop) (aF : Nat → Nat) (Q : State → Prop) (ls : Array Slot), l.stackTraces = false → p.tables.exec = Jvm.exec → c.code = cd → c.maxLocals = nL → s.vm.findClass y.cls = some m.cls → (∀ w ∈ lw_all, w.before args s = true) → ECC D J o z aK aV G Ld aF Λ Λn s → ThrE z s →
      (∀ (H : Heap) (locs : List Loc) (pc : Nat) (ls : Array Slot) (x : Int32) (σ' : Cs), IC D J o Ld s H locs σ' → out = .inl (x, σ') → decode cd pc = .ok (.ireturn, 1) → W p l e ({ frames := fr, cells := mc, slots := ms, locals := lo } : Room) s m args below meth c H locs mc ms Q (F0 m pc ls [.int x])) →
      (∀ (H : Heap) (locs : List Loc) (pc : Nat) (ls : Array Slot) (rest : List Value) (cells slots : Nat) (E : String) (ce : Cell) (q9 : Addr) (n : Nat) (σ' : Cs), IC D J o Ld s H locs σ' → out = .inr (n, σ') → E = exN n → H[q9]? = some ce → ce.vm = .none → s.vm.findClass E = some ce.cls → cells ≤ mc → slots ≤ ms → vx_W p l e ({ frames := fr, cells := mc, slots := ms, locals := lo } : Room) s m args below meth c H locs cells slots Q (F0 m pc ls rest) q9) →
      (∀ (H : Heap) (locs : List Loc) (pc : Nat) (ls : Array Slot) (cells slots : Nat) (i ik ic : Nat) (names : List String) (σ' : Cs), IC D J o Ld s H locs σ' → out = .inr (i, σ') → ls.size = nL → (Cond.classLink y.cls ik (exN i)).before args s = true → (Cond.initialized (exN i)).before args s = true → (∀ w ∈ vx_at0 y.cls ic (exN i) names, w.before args s = true) → (∀ w ∈ Cond.classLink y.cls ik (exN i) :: Cond.initialized (exN i) :: vx_at0 y.cls ic (exN i) names, vx_ot w = true) → Bundle.fit (exN i) = true → (∀ n ∈ names, Bundle.fit n = true) → decode cd pc = .ok (.new ik, 3) → decode cd (pc + 3) = .ok (.dup, 1) → decode cd (pc + 4) = .ok (.invokespecial ic, 3) → decode cd (pc + 7) = .ok (.athrow, 1) → names.length + 3 < fr → 13 * (names.length + 1) + 42 ≤ lo → cells + 1 ≤ mc → slots + 6 ≤ ms → W p l e ({ frames := fr, cells := mc, slots := ms, locals := lo } : Room) s m args below meth c H locs cells slots Q (F0 m pc ls [])) →
      IC D J o Ld s s.heap [] σ → lv_has ls nL (lv_args 0 (As o aK aF)) → W p l e ({ frames := fr, cells := mc, slots := ms, locals := lo } : Room) s m args below meth c s.heap [] 0 0 Q (F0 m 0 ls [])) : CXi y cd nL (some .int) fr lo mc ms Λ Λn As out σ := by
  intro l D J o z aK aV G Ld aF hst
  refine vx_ofW (cc := cd) (maxL := nL) (ret := some .int) hy rfl ?_
  intro p e s m args below meth c s₁ B hml htab hv
  obtain ⟨rfl, hP, hE, hT⟩ := hv
  have hts := atoms_spec (ws := ws_ y cd nL (some .int)) B.pre
  have hts : ∀ w ∈ lw_all, w.before _ s = true := fun w h => hts w (List.mem_cons_of_mem _ h)
  have hl := lv_entry (As o aK aF) (n := nL) (hlen o aK aF)
  rw [lg_entry_eq]
  generalize (lg_sl (As o aK aF) ++ List.replicate (nL - (lg_sl (As o aK aF)).length) Slot.unset).toArray = ls at hl ⊢
  have hown := findClass_of_methodNamed B.named
  refine body p l e s m _ below meth c D J o z aK aV G Ld aF _ ls hst B.exec B.bytes hml hown hts hE hT (fun H locs pc ls x σ' hI ho hdg => vx_ret ?_) (fun H locs pc ls rest cells slots E ce q9 n σ' hI ho hn h1 h2 h3 hc hs => ?_) (fun H locs pc ls cells slots i ik ic names σ' hI ho hls hk hini hat hgood hfit hfits d0 d3 d4 d7 hfr hlo hc hs => ?_) ⟨hP, va_S.rf⟩ hl
  · exact W.iret B.exec B.bytes B.returns (fun t ht hW => ⟨⟨x, σ', rfl, ho, by show PC D J o Ld σ' t.heap; rw [ht]; exact hI.1⟩, hI.2.F ht⟩) hI.2.2.2 hdg B.notSynchronized
  · exact vx_out (fun x hx => (htab x hx).elim) B.notSynchronized h1 h2 h3 (fun t ht _ => ⟨(n, σ'), ho, ⟨hn, by rw [ht]; exact hI.1⟩, hI.2.F ht⟩) hI.2.2.2 hc hs
  · exact vx_throw0 (A := zZ z) (names := names) B.exec B.bytes hst hown hfit hfits hk hini hat hgood hT.2.2.1 hT.2.2.2 ⟨hI.2.1, fun q h1 h2 => hI.2.2.1 q h1 (fun h3 => h2 (Nat.le_trans hE.2.2.1 h3.1)), fun l hl => Nat.le_trans hE.2.2.1 (hI.2.2.2 l hl).1⟩ (by rw [hls, hml]) d0 d3 d4 d7 (fun x hx => (htab x hx).elim) hfr (by simpa using hlo) hc hs B.notSynchronized (fun t _ hz hq => ⟨(i, σ'), ho, ⟨rfl, hI.1.kept (fun q h1 _ => hq q h1)⟩, ⟨Nat.le_trans hI.2.1 hz, fun q h1 h2 => (hq q (Nat.lt_of_lt_of_le h1 hI.2.1)).trans (hI.2.2.1 q h1 h2)⟩⟩) hI.2.2.2 hc hs
theorem CXz.of {y : MethodName} {cd : ByteArray} {nL fr lo mc ms : Nat} {Λ : Nat → Nat → (Nat → Int32) → Int32} {Λn : Nat → Int32} {As : Nat → (Nat → Nat) → (Nat → Nat) → List Value} {out : Xo} {σ : Cs} (hy : plainName y.cls = true) (hlen : ∀ (o : Nat) (aK aF : Nat → Nat), (lg_sl (As o aK aF)).length ≤ nL)
    (body : ∀ (p : Program) (l : Launch) (e : Env) (s : State) (m : MethodId) (args : Array Value) (below : List Frame) (meth : Method) (c : Code) (D : va_G) (J : Nat → ClassId) (o z : Nat) (aK aV : Nat → Nat) (G Ld : Nat → Prop) (aF : Nat → Nat) (Q : State → Prop) (ls : Array Slot), l.stackTraces = false → p.tables.exec = Jvm.exec → c.code = cd → c.maxLocals = nL → s.vm.findClass y.cls = some m.cls → (∀ w ∈ lw_all, w.before args s = true) → ECC D J o z aK aV G Ld aF Λ Λn s → ThrE z s →
      (∀ (H : Heap) (locs : List Loc) (pc : Nat) (ls : Array Slot) (x : Int32) (σ' : Cs), IC D J o Ld s H locs σ' → out = .inl (x, σ') → (x = 0 ∨ x = 1) → decode cd pc = .ok (.ireturn, 1) → W p l e ({ frames := fr, cells := mc, slots := ms, locals := lo } : Room) s m args below meth c H locs mc ms Q (F0 m pc ls [.int x])) →
      (∀ (H : Heap) (locs : List Loc) (pc : Nat) (ls : Array Slot) (rest : List Value) (cells slots : Nat) (E : String) (ce : Cell) (q9 : Addr) (n : Nat) (σ' : Cs), IC D J o Ld s H locs σ' → out = .inr (n, σ') → E = exN n → H[q9]? = some ce → ce.vm = .none → s.vm.findClass E = some ce.cls → cells ≤ mc → slots ≤ ms → vx_W p l e ({ frames := fr, cells := mc, slots := ms, locals := lo } : Room) s m args below meth c H locs cells slots Q (F0 m pc ls rest) q9) →
      (∀ (H : Heap) (locs : List Loc) (pc : Nat) (ls : Array Slot) (cells slots : Nat) (i ik ic : Nat) (names : List String) (σ' : Cs), IC D J o Ld s H locs σ' → out = .inr (i, σ') → ls.size = nL → (Cond.classLink y.cls ik (exN i)).before args s = true → (Cond.initialized (exN i)).before args s = true → (∀ w ∈ vx_at0 y.cls ic (exN i) names, w.before args s = true) → (∀ w ∈ Cond.classLink y.cls ik (exN i) :: Cond.initialized (exN i) :: vx_at0 y.cls ic (exN i) names, vx_ot w = true) → Bundle.fit (exN i) = true → (∀ n ∈ names, Bundle.fit n = true) → decode cd pc = .ok (.new ik, 3) → decode cd (pc + 3) = .ok (.dup, 1) → decode cd (pc + 4) = .ok (.invokespecial ic, 3) → decode cd (pc + 7) = .ok (.athrow, 1) → names.length + 3 < fr → 13 * (names.length + 1) + 42 ≤ lo → cells + 1 ≤ mc → slots + 6 ≤ ms → W p l e ({ frames := fr, cells := mc, slots := ms, locals := lo } : Room) s m args below meth c H locs cells slots Q (F0 m pc ls [])) →
      IC D J o Ld s s.heap [] σ → lv_has ls nL (lv_args 0 (As o aK aF)) → W p l e ({ frames := fr, cells := mc, slots := ms, locals := lo } : Room) s m args below meth c s.heap [] 0 0 Q (F0 m 0 ls [])) : CXi y cd nL (some .boolean) fr lo mc ms Λ Λn As out σ := by
  intro l D J o z aK aV G Ld aF hst
  refine vx_ofW (cc := cd) (maxL := nL) (ret := some .boolean) hy rfl ?_
  intro p e s m args below meth c s₁ B hml htab hv
  obtain ⟨rfl, hP, hE, hT⟩ := hv
  have hts := atoms_spec (ws := ws_ y cd nL (some .boolean)) B.pre
  have hts : ∀ w ∈ lw_all, w.before _ s = true := fun w h => hts w (List.mem_cons_of_mem _ h)
  have hl := lv_entry (As o aK aF) (n := nL) (hlen o aK aF)
  rw [lg_entry_eq]
  generalize (lg_sl (As o aK aF) ++ List.replicate (nL - (lg_sl (As o aK aF)).length) Slot.unset).toArray = ls at hl ⊢
  have hown := findClass_of_methodNamed B.named
  refine body p l e s m _ below meth c D J o z aK aV G Ld aF _ ls hst B.exec B.bytes hml hown hts hE hT (fun H locs pc ls x σ' hI ho h01 hdg => vx_ret ?_) (fun H locs pc ls rest cells slots E ce q9 n σ' hI ho hn h1 h2 h3 hc hs => ?_) (fun H locs pc ls cells slots i ik ic names σ' hI ho hls hk hini hat hgood hfit hfits d0 d3 d4 d7 hfr hlo hc hs => ?_) ⟨hP, va_S.rf⟩ hl
  · exact W.zret B.exec B.bytes B.returns (zb_n h01) (fun t ht hW => ⟨⟨x, σ', rfl, ho, by show PC D J o Ld σ' t.heap; rw [ht]; exact hI.1⟩, hI.2.F ht⟩) hI.2.2.2 hdg B.notSynchronized
  · exact vx_out (fun x hx => (htab x hx).elim) B.notSynchronized h1 h2 h3 (fun t ht _ => ⟨(n, σ'), ho, ⟨hn, by rw [ht]; exact hI.1⟩, hI.2.F ht⟩) hI.2.2.2 hc hs
  · exact vx_throw0 (A := zZ z) (names := names) B.exec B.bytes hst hown hfit hfits hk hini hat hgood hT.2.2.1 hT.2.2.2 ⟨hI.2.1, fun q h1 h2 => hI.2.2.1 q h1 (fun h3 => h2 (Nat.le_trans hE.2.2.1 h3.1)), fun l hl => Nat.le_trans hE.2.2.1 (hI.2.2.2 l hl).1⟩ (by rw [hls, hml]) d0 d3 d4 d7 (fun x hx => (htab x hx).elim) hfr (by simpa using hlo) hc hs B.notSynchronized (fun t _ hz hq => ⟨(i, σ'), ho, ⟨rfl, hI.1.kept (fun q h1 _ => hq q h1)⟩, ⟨Nat.le_trans hI.2.1 hz, fun q h1 h2 => (hq q (Nat.lt_of_lt_of_le h1 hI.2.1)).trans (hI.2.2.1 q h1 h2)⟩⟩) hI.2.2.2 hc hs
theorem CXv.of {y : MethodName} {cd : ByteArray} {nL fr lo mc ms : Nat} {Λ : Nat → Nat → (Nat → Int32) → Int32} {Λn : Nat → Int32} {As : Nat → (Nat → Nat) → (Nat → Nat) → List Value} {out : Xo} {σ : Cs} (hy : plainName y.cls = true) (hlen : ∀ (o : Nat) (aK aF : Nat → Nat), (lg_sl (As o aK aF)).length ≤ nL)
    (body : ∀ (p : Program) (l : Launch) (e : Env) (s : State) (m : MethodId) (args : Array Value) (below : List Frame) (meth : Method) (c : Code) (D : va_G) (J : Nat → ClassId) (o z : Nat) (aK aV : Nat → Nat) (G Ld : Nat → Prop) (aF : Nat → Nat) (Q : State → Prop) (ls : Array Slot), l.stackTraces = false → p.tables.exec = Jvm.exec → c.code = cd → c.maxLocals = nL → s.vm.findClass y.cls = some m.cls → (∀ w ∈ lw_all, w.before args s = true) → ECC D J o z aK aV G Ld aF Λ Λn s → ThrE z s →
      (∀ (H : Heap) (locs : List Loc) (pc : Nat) (ls : Array Slot) (σ' : Cs), IC D J o Ld s H locs σ' → out = .inl (0, σ') → decode cd pc = .ok (.return_, 1) → W p l e ({ frames := fr, cells := mc, slots := ms, locals := lo } : Room) s m args below meth c H locs mc ms Q (F0 m pc ls [])) →
      (∀ (H : Heap) (locs : List Loc) (pc : Nat) (ls : Array Slot) (rest : List Value) (cells slots : Nat) (E : String) (ce : Cell) (q9 : Addr) (n : Nat) (σ' : Cs), IC D J o Ld s H locs σ' → out = .inr (n, σ') → E = exN n → H[q9]? = some ce → ce.vm = .none → s.vm.findClass E = some ce.cls → cells ≤ mc → slots ≤ ms → vx_W p l e ({ frames := fr, cells := mc, slots := ms, locals := lo } : Room) s m args below meth c H locs cells slots Q (F0 m pc ls rest) q9) →
      (∀ (H : Heap) (locs : List Loc) (pc : Nat) (ls : Array Slot) (cells slots : Nat) (i ik ic : Nat) (names : List String) (σ' : Cs), IC D J o Ld s H locs σ' → out = .inr (i, σ') → ls.size = nL → (Cond.classLink y.cls ik (exN i)).before args s = true → (Cond.initialized (exN i)).before args s = true → (∀ w ∈ vx_at0 y.cls ic (exN i) names, w.before args s = true) → (∀ w ∈ Cond.classLink y.cls ik (exN i) :: Cond.initialized (exN i) :: vx_at0 y.cls ic (exN i) names, vx_ot w = true) → Bundle.fit (exN i) = true → (∀ n ∈ names, Bundle.fit n = true) → decode cd pc = .ok (.new ik, 3) → decode cd (pc + 3) = .ok (.dup, 1) → decode cd (pc + 4) = .ok (.invokespecial ic, 3) → decode cd (pc + 7) = .ok (.athrow, 1) → names.length + 3 < fr → 13 * (names.length + 1) + 42 ≤ lo → cells + 1 ≤ mc → slots + 6 ≤ ms → W p l e ({ frames := fr, cells := mc, slots := ms, locals := lo } : Room) s m args below meth c H locs cells slots Q (F0 m pc ls [])) →
      IC D J o Ld s s.heap [] σ → lv_has ls nL (lv_args 0 (As o aK aF)) → W p l e ({ frames := fr, cells := mc, slots := ms, locals := lo } : Room) s m args below meth c s.heap [] 0 0 Q (F0 m 0 ls [])) : CXv y cd nL (none) fr lo mc ms Λ Λn As out σ := by
  intro l D J o z aK aV G Ld aF hst
  refine vx_ofW (cc := cd) (maxL := nL) (ret := none) hy rfl ?_
  intro p e s m args below meth c s₁ B hml htab hv
  obtain ⟨rfl, hP, hE, hT⟩ := hv
  have hts := atoms_spec (ws := ws_ y cd nL (none)) B.pre
  have hts : ∀ w ∈ lw_all, w.before _ s = true := fun w h => hts w (List.mem_cons_of_mem _ h)
  have hl := lv_entry (As o aK aF) (n := nL) (hlen o aK aF)
  rw [lg_entry_eq]
  generalize (lg_sl (As o aK aF) ++ List.replicate (nL - (lg_sl (As o aK aF)).length) Slot.unset).toArray = ls at hl ⊢
  have hown := findClass_of_methodNamed B.named
  refine body p l e s m _ below meth c D J o z aK aV G Ld aF _ ls hst B.exec B.bytes hml hown hts hE hT (fun H locs pc ls σ' hI ho hdg => vx_ret ?_) (fun H locs pc ls rest cells slots E ce q9 n σ' hI ho hn h1 h2 h3 hc hs => ?_) (fun H locs pc ls cells slots i ik ic names σ' hI ho hls hk hini hat hgood hfit hfits d0 d3 d4 d7 hfr hlo hc hs => ?_) ⟨hP, va_S.rf⟩ hl
  · exact W.vret B.exec B.bytes B.returns (fun t ht hW => ⟨⟨σ', rfl, ho, by show PC D J o Ld σ' t.heap; rw [ht]; exact hI.1⟩, hI.2.F ht⟩) hI.2.2.2 hdg B.notSynchronized
  · exact vx_out (fun x hx => (htab x hx).elim) B.notSynchronized h1 h2 h3 (fun t ht _ => ⟨(n, σ'), ho, ⟨hn, by rw [ht]; exact hI.1⟩, hI.2.F ht⟩) hI.2.2.2 hc hs
  · exact vx_throw0 (A := zZ z) (names := names) B.exec B.bytes hst hown hfit hfits hk hini hat hgood hT.2.2.1 hT.2.2.2 ⟨hI.2.1, fun q h1 h2 => hI.2.2.1 q h1 (fun h3 => h2 (Nat.le_trans hE.2.2.1 h3.1)), fun l hl => Nat.le_trans hE.2.2.1 (hI.2.2.2 l hl).1⟩ (by rw [hls, hml]) d0 d3 d4 d7 (fun x hx => (htab x hx).elim) hfr (by simpa using hlo) hc hs B.notSynchronized (fun t _ hz hq => ⟨(i, σ'), ho, ⟨rfl, hI.1.kept (fun q h1 _ => hq q h1)⟩, ⟨Nat.le_trans hI.2.1 hz, fun q h1 h2 => (hq q (Nat.lt_of_lt_of_le h1 hI.2.1)).trans (hI.2.2.1 q h1 h2)⟩⟩) hI.2.2.2 hc hs
theorem tswOut {x : Int32} {n : Nat} (hn : n < 2 ^ 31) (h : ∀ k, k ≤ n → ¬ x = nI k) : x.toInt < 0 ∨ (n : Int) < x.toInt := by
  by_cases h0 : x < 0
  · left; exact Int32.lt_iff_toInt_lt.mp h0
  · right
    obtain ⟨j, hj, rfl⟩ := nI_of h0
    rw [nI_toInt hj]
    have : ¬ j ≤ n := fun hle => h j hle rfl
    omega
section XCALLS
variable {p : Program} {l : Launch} {e : Env} {R : Room} {s : State} {m : MethodId} {args : Array Value} {below : List Frame} {meth : Method} {c : Code} {H : Heap} {locs : List Loc} {cells slots : Nat} {Q : State → Prop}
variable {cc : ByteArray} {pc : Nat} {ls : Array Slot} {rest : List Value} {D : va_G} {J : Nat → ClassId} {o z : Nat} {aK aV : Nat → Nat} {G Ld : Nat → Prop} {aF : Nat → Nat} {Λ : Nat → Nat → (Nat → Int32) → Int32} {Λn : Nat → Int32} {σ σ' : Cs}
/-- a static thrower -/
theorem xcallS (hx : p.tables.exec = Jvm.exec) (hb : c.code = cc) (hts : ∀ w ∈ lw_all, w.before args s = true) (hst : l.stackTraces = false) {own : String} (hown : s.vm.findClass own = some m.cls) (hE : ECC D J o z aK aV G Ld aF Λ Λn s) (hT : ThrE z s) (hI : IC D J o Ld s H locs σ) {nL : Nat} (hml : c.maxLocals = nL) (hlsz : ls.size = nL)
    {y : MethodName} {cd : ByteArray} {nL' fr lo n index : Nat} {As : List Value} {out : Option Nat} (hM : SXn y cd nL' fr lo As out) (cwl : CallB R s args own index y cd nL' none (ws_ y cd nL' none) ({ frames := fr, cells := 1, slots := 6, locals := lo }) 1 6 n ∧ (Cond.static y).before args s = true)
    (hc : cells + 1 ≤ R.cells ∧ slots + 6 ≤ R.slots) (hn : As.length = n) {st : List Value} (hst0 : st = As.reverse ++ rest) (hW : 2 * (F0 m pc ls st).monitorRoom + (rest.map fun v => v.category).sum ≤ 8) (hdg : decode cc pc = .ok (.invokestatic index, 3))
    (kx : ∀ (E : String) (ce : Cell) (q9 : Addr) (n : Nat) (H1 : Heap) (locs1 : List Loc), out = some n → E = exN n → IC D J o Ld s H1 locs1 σ → H1[q9]? = some ce → ce.vm = .none → s.vm.findClass E = some ce.cls → vx_W p l e R s m args below meth c H1 locs1 (cells + 1) (slots + 6) Q (F0 m pc ls rest) q9)
    (kk : out = none → ∀ (H1 : Heap) (locs1 : List Loc), IC D J o Ld s H1 locs1 σ → W p l e R s m args below meth c H1 locs1 (cells + 1) (slots + 6) Q (F0 m (pc + 3) ls rest)) : W p l e R s m args below meth c H locs cells slots Q (F0 m pc ls st) := by
  refine vx_callv (vx_runS (As := As) (rest := rest) ⟨hx, hb, hml, hown, hts⟩ (hM l z hst) cwl ⟨fun a U g mk q => ⟨q.1, q.2.go (State.WarmedH.refl U) (fun _ _ _ => rfl)⟩, fun U hU hW => ⟨rfl, hT.go hW (fun q h1 h2 => by rw [hU]; exact hI.old q h1 (fun h3 => h2 (Nat.le_trans hE.2.2.1 h3.1)))⟩⟩ rfl hn hlsz hst0 hW hdg ⟨hc.1, hc.2⟩) hI.2 (fun q _ h => h.elim) (fun q h => h.elim) (fun q _ h => h.elim) (fun E ce q9 u t H1 locs1 ht hvm hp hB hz1 hk1 hS h1 h2 h3 => ?_) (fun u t H1 locs1 ht hvm hp hB hz1 hk1 hS => ?_)
  · exact kx E ce q9 u H1 locs1 hp hB ⟨hI.1.kept (fun q hq _ => hk1 q hq (fun h => h)), hS⟩ h1 h2 h3
  · exact kk hp H1 locs1 ⟨hI.1.kept (fun q hq _ => hk1 q hq (fun h => h)), hS⟩
theorem xcallI (hx : p.tables.exec = Jvm.exec) (hb : c.code = cc) (hts : ∀ w ∈ lw_all, w.before args s = true) (hst : l.stackTraces = false) {own : String} (hown : s.vm.findClass own = some m.cls) (hE : ECC D J o z aK aV G Ld aF Λ Λn s) (hT : ThrE z s) (hI : IC D J o Ld s H locs σ) {nL : Nat} (hml : c.maxLocals = nL) (hlsz : ls.size = nL)
    {y : MethodName} {cd : ByteArray} {nL' fr lo mc ms n index b ci N : Nat} {fs : List Value} {C : String} {T : u_T} {ret : Option FieldType} {As : Nat → (Nat → Nat) → (Nat → Nat) → List Value} {As' : List Value} {out : Xo} (hM : CXi y cd nL' ret fr lo mc ms Λ Λn As out σ) (cwl : CallW R s args own C index y cd nL' ret (ws_ y cd nL' ret) ({ frames := fr, cells := mc, slots := ms, locals := lo }) mc ms n) (hat : va_at D vwC (b, .inr (ci, fs)) H) (hcl : vwC[ci]? = some (C, T, N)) (hAs : As o aK aF = .ref b :: As')
    (hc : cells + mc ≤ R.cells ∧ slots + ms ≤ R.slots) (hn : As'.length = n) {st : List Value} (hst0 : st = As'.reverse ++ .ref b :: rest) (hW : 2 * (F0 m pc ls st).monitorRoom + (rest.map fun v => v.category).sum ≤ 8) (hdg : decode cc pc = .ok (.invokevirtual index, 3))
    (kx : ∀ (E : String) (ce : Cell) (q9 : Addr) (n : Nat) (σ' : Cs) (H1 : Heap) (locs1 : List Loc), out = .inr (n, σ') → E = exN n → IC D J o Ld s H1 locs1 σ' → H1[q9]? = some ce → ce.vm = .none → s.vm.findClass E = some ce.cls → vx_W p l e R s m args below meth c H1 locs1 (cells + mc) (slots + ms) Q (F0 m pc ls rest) q9)
    (kk : ∀ (v : Int32 × Cs) (H1 : Heap) (locs1 : List Loc), out = .inl v → IC D J o Ld s H1 locs1 v.2 → W p l e R s m args below meth c H1 locs1 (cells + mc) (slots + ms) Q (F0 m (pc + 3) ls (.int v.1 :: rest))) : W p l e R s m args below meth c H locs cells slots Q (F0 m pc ls st) := by
  have hM := hM l D J o z aK aV G Ld aF hst
  rw [hAs] at hM
  refine vx_calli (vx_runV (As := As') (rest := rest) ⟨hx, hb, hml, hown, hts⟩ hM cwl ⟨fun a U g mk q => ?_, g_recv hE.1.1 hat hcl, fun U hU hW => ⟨rfl, by rw [hU]; exact hI.1, ECX.go ⟨hE, hT⟩ hW (fun q h1 h2 => by rw [hU]; exact hI.old q h1 h2)⟩⟩ rfl hn hlsz hst0 hW hdg ⟨hc.1, hc.2⟩) hI.2 (fun q _ h => h) (fun q h => h) (fun q _ h => h) (fun E ce q9 u t H1 locs1 ht hvm hp hB hz1 hk1 hS h1 h2 h3 => ?_) (fun r u t H1 locs1 ht hvm hp hB hz1 hk1 hS => ?_)
  · obtain ⟨q0, qP, qE⟩ := q
    exact ⟨q0, qP, qE.go (State.WarmedH.refl U) (fun _ _ _ => rfl)⟩
  · exact kx E ce q9 u.1 u.2 H1 locs1 hp hB.1 ⟨by rw [← ht]; exact hB.2, hS⟩ h1 h2 h3
  · exact kk (r, u) H1 locs1 hp ⟨by rw [← ht]; exact hB, hS⟩
theorem xcallV (hx : p.tables.exec = Jvm.exec) (hb : c.code = cc) (hts : ∀ w ∈ lw_all, w.before args s = true) (hst : l.stackTraces = false) {own : String} (hown : s.vm.findClass own = some m.cls) (hE : ECC D J o z aK aV G Ld aF Λ Λn s) (hT : ThrE z s) (hI : IC D J o Ld s H locs σ) {nL : Nat} (hml : c.maxLocals = nL) (hlsz : ls.size = nL)
    {y : MethodName} {cd : ByteArray} {nL' fr lo mc ms n index b ci N : Nat} {fs : List Value} {C : String} {T : u_T} {ret : Option FieldType} {As : Nat → (Nat → Nat) → (Nat → Nat) → List Value} {As' : List Value} {out : Xo} (hM : CXv y cd nL' ret fr lo mc ms Λ Λn As out σ) (cwl : CallW R s args own C index y cd nL' ret (ws_ y cd nL' ret) ({ frames := fr, cells := mc, slots := ms, locals := lo }) mc ms n) (hat : va_at D vwC (b, .inr (ci, fs)) H) (hcl : vwC[ci]? = some (C, T, N)) (hAs : As o aK aF = .ref b :: As')
    (hc : cells + mc ≤ R.cells ∧ slots + ms ≤ R.slots) (hn : As'.length = n) {st : List Value} (hst0 : st = As'.reverse ++ .ref b :: rest) (hW : 2 * (F0 m pc ls st).monitorRoom + (rest.map fun v => v.category).sum ≤ 8) (hdg : decode cc pc = .ok (.invokevirtual index, 3))
    (kx : ∀ (E : String) (ce : Cell) (q9 : Addr) (n : Nat) (σ' : Cs) (H1 : Heap) (locs1 : List Loc), out = .inr (n, σ') → E = exN n → IC D J o Ld s H1 locs1 σ' → H1[q9]? = some ce → ce.vm = .none → s.vm.findClass E = some ce.cls → vx_W p l e R s m args below meth c H1 locs1 (cells + mc) (slots + ms) Q (F0 m pc ls rest) q9)
    (kk : ∀ (v : Int32 × Cs) (H1 : Heap) (locs1 : List Loc), out = .inl v → IC D J o Ld s H1 locs1 v.2 → W p l e R s m args below meth c H1 locs1 (cells + mc) (slots + ms) Q (F0 m (pc + 3) ls rest)) : W p l e R s m args below meth c H locs cells slots Q (F0 m pc ls st) := by
  have hM := hM l D J o z aK aV G Ld aF hst
  rw [hAs] at hM
  refine vx_callv (vx_runV (As := As') (rest := rest) ⟨hx, hb, hml, hown, hts⟩ hM cwl ⟨fun a U g mk q => ?_, g_recv hE.1.1 hat hcl, fun U hU hW => ⟨rfl, by rw [hU]; exact hI.1, ECX.go ⟨hE, hT⟩ hW (fun q h1 h2 => by rw [hU]; exact hI.old q h1 h2)⟩⟩ rfl hn hlsz hst0 hW hdg ⟨hc.1, hc.2⟩) hI.2 (fun q _ h => h) (fun q h => h) (fun q _ h => h) (fun E ce q9 u t H1 locs1 ht hvm hp hB hz1 hk1 hS h1 h2 h3 => ?_) (fun u t H1 locs1 ht hvm hp hB hz1 hk1 hS => ?_)
  · obtain ⟨q0, qP, qE⟩ := q
    exact ⟨q0, qP, qE.go (State.WarmedH.refl U) (fun _ _ _ => rfl)⟩
  · exact kx E ce q9 u.1 u.2 H1 locs1 hp hB.1 ⟨by rw [← ht]; exact hB.2, hS⟩ h1 h2 h3
  · exact kk (0, u) H1 locs1 hp ⟨by rw [← ht]; exact hB, hS⟩
end XCALLS

section NCALLS
variable {p : Program} {l : Launch} {e : Env} {R : Room} {s : State} {m : MethodId} {args : Array Value} {below : List Frame} {meth : Method} {c : Code} {H : Heap} {locs : List Loc} {cells slots : Nat} {Q : State → Prop}
variable {cc : ByteArray} {pc : Nat} {ls : Array Slot} {rest : List Value} {D : va_G} {J : Nat → ClassId} {o z : Nat} {aK aV : Nat → Nat} {G Ld : Nat → Prop} {aF : Nat → Nat} {Λ : Nat → Nat → (Nat → Int32) → Int32} {Λn : Nat → Int32} {σ σ' : Cs}

theorem xcallSN (hx : p.tables.exec = Jvm.exec) (hb : c.code = cc) (hts : ∀ w ∈ lw_all, w.before args s = true) (hst : l.stackTraces = false) {own host : String} (hown : s.vm.findClass own = some m.cls) (hE : ECC D J o z aK aV G Ld aF Λ Λn s) (hT : ThrE z s) (hI : IC D J o Ld s H locs σ) {nL : Nat} (hml : c.maxLocals = nL) (hlsz : ls.size = nL)
    {y : MethodName} {cd : ByteArray} {nL' fr lo n index : Nat} {As : List Value} {out : Option Nat} (hM : SXn y cd nL' fr lo As out) (cwl : va_CN R s args own index y host cd nL' none (ws_ y cd nL' none) ({ frames := fr, cells := 1, slots := 6, locals := lo }) 1 6 n ∧ (Cond.static y).before args s = true ∧ True)
    (hc : cells + 1 ≤ R.cells ∧ slots + 6 ≤ R.slots) (hn : As.length = n) {st : List Value} (hst0 : st = As.reverse ++ rest) (hW : 2 * (F0 m pc ls st).monitorRoom + (rest.map fun v => v.category).sum ≤ 8) (hdg : decode cc pc = .ok (.invokestatic index, 3))
    (kx : ∀ (E : String) (ce : Cell) (q9 : Addr) (n : Nat) (H1 : Heap) (locs1 : List Loc), out = some n → E = exN n → IC D J o Ld s H1 locs1 σ → H1[q9]? = some ce → ce.vm = .none → s.vm.findClass E = some ce.cls → vx_W p l e R s m args below meth c H1 locs1 (cells + 1) (slots + 6) Q (F0 m pc ls rest) q9)
    (kk : out = none → ∀ (H1 : Heap) (locs1 : List Loc), IC D J o Ld s H1 locs1 σ → W p l e R s m args below meth c H1 locs1 (cells + 1) (slots + 6) Q (F0 m (pc + 3) ls rest)) : W p l e R s m args below meth c H locs cells slots Q (F0 m pc ls st) := by
  refine vx_callv (vx_runSN (As := As) (rest := rest) ⟨hx, hb, hml, hown, hts⟩ (hM l z hst) cwl ⟨fun a U g mk q => ⟨q.1, q.2.go (State.WarmedH.refl U) (fun _ _ _ => rfl)⟩, fun U hU hW => ⟨rfl, hT.go hW (fun q h1 h2 => by rw [hU]; exact hI.old q h1 (fun h3 => h2 (Nat.le_trans hE.2.2.1 h3.1)))⟩⟩ rfl hn hlsz hst0 hW hdg ⟨hc.1, hc.2⟩) hI.2 (fun q _ h => h.elim) (fun q h => h.elim) (fun q _ h => h.elim) (fun E ce q9 u t H1 locs1 ht hvm hp hB hz1 hk1 hS h1 h2 h3 => ?_) (fun u t H1 locs1 ht hvm hp hB hz1 hk1 hS => ?_)
  · exact kx E ce q9 u H1 locs1 hp hB ⟨hI.1.kept (fun q hq _ => hk1 q hq (fun h => h)), hS⟩ h1 h2 h3
  · exact kk hp H1 locs1 ⟨hI.1.kept (fun q hq _ => hk1 q hq (fun h => h)), hS⟩
theorem tcallSvN {p : Program} {l : Launch} {e : Env} {R : Room} {s : State} {m : MethodId} {args : Array Value} {below : List Frame} {meth : Method} {c : Code} {H : Heap} {locs : List Loc} {cells slots : Nat} {Q : State → Prop} {cc : ByteArray} {pc : Nat} {ls : Array Slot} {rest : List Value} (hx : p.tables.exec = Jvm.exec) (hb : c.code = cc) (hts : ∀ w ∈ lw_all, w.before args s = true) {own host : String} (hown : s.vm.findClass own = some m.cls) {nL : Nat} (hml : c.maxLocals = nL) (hlsz : ls.size = nL)
    {y : MethodName} {cd : ByteArray} {nL' fr lo n index : Nat} {As : List Value} (hM : SVn y cd nL' fr lo As) (cw : va_CN R s args own index y host cd nL' none (ws_ y cd nL' none) ({ frames := fr, cells := 0, slots := 0, locals := lo }) 0 0 n ∧ (Cond.static y).before args s = true ∧ True)
    (hc : cells ≤ R.cells ∧ slots ≤ R.slots) (hn : As.length = n) {st : List Value} (hst : st = As.reverse ++ rest) (hW : 2 * (F0 m pc ls st).monitorRoom + (rest.map fun v => v.category).sum ≤ 8) (hdg : decode cc pc = .ok (.invokestatic index, 3))
    (kk : W p l e R s m args below meth c H locs cells slots Q (F0 m (pc + 3) ls rest)) : W p l e R s m args below meth c H locs cells slots Q (F0 m pc ls st) := by
  intro T hT X
  obtain ⟨v, st₀, t, T', L, h0, X', hL, e1, e2, ⟨hv, hh⟩, stp⟩ := va_runSN (As := As) (rest := rest) ⟨hx, hb, hml, hown, hts⟩ (hM l) cw ⟨fun a U g mk q => ⟨q.1, trivial⟩, fun U hU hW => ⟨rfl, trivial⟩⟩ rfl hn hlsz hst hW hdg ⟨hc.1, hc.2⟩ T hT X
  have hL0 : L = [] := noloc hL
  subst hL0
  cases hv
  rw [List.append_nil] at X'
  obtain ⟨t2, a1, b1⟩ := kk T' (by rw [e1, hh, h0]) X'
  exact ⟨t2, stp t2 a1, b1⟩

theorem ccallIN (hx : p.tables.exec = Jvm.exec) (hb : c.code = cc) (hts : ∀ w ∈ lw_all, w.before args s = true) {own host : String} (hown : s.vm.findClass own = some m.cls) (hE : ECC D J o z aK aV G Ld aF Λ Λn s) (hI : IC D J o Ld s H locs σ) {nL : Nat} (hml : c.maxLocals = nL) (hlsz : ls.size = nL)
    {y : MethodName} {cd : ByteArray} {nL' fr lo n index b ci N : Nat} {fs : List Value} {C : String} {T : u_T} {ret : Option FieldType} {As : Nat → (Nat → Nat) → (Nat → Nat) → List Value} {As' : List Value} {r : Int32} (hM : CMi y cd nL' ret fr lo Λ Λn As r σ σ') (cwl : va_CN R s args own index y host cd nL' ret (ws_ y cd nL' ret) ({ frames := fr, cells := 0, slots := 0, locals := lo }) 0 0 n ∧ (Cond.instanceMethod y).before args s = true ∧ (Cond.selects C y y).before args s = true) (hat : va_at D vwC (b, .inr (ci, fs)) H) (hcl : vwC[ci]? = some (C, T, N)) (hAs : As o aK aF = .ref b :: As')
    (hc : cells ≤ R.cells ∧ slots ≤ R.slots) (hn : As'.length = n) {st : List Value} (hst : st = As'.reverse ++ .ref b :: rest) (hW : 2 * (F0 m pc ls st).monitorRoom + (rest.map fun v => v.category).sum ≤ 8) (hdg : decode cc pc = .ok (.invokevirtual index, 3))
    (kk : ∀ (H1 : Heap) (locs1 : List Loc), IC D J o Ld s H1 locs1 σ' → W p l e R s m args below meth c H1 locs1 cells slots Q (F0 m (pc + 3) ls (.int r :: rest))) : W p l e R s m args below meth c H locs cells slots Q (F0 m pc ls st) := by
  have hM := hM l D J o z aK aV G Ld aF
  rw [hAs] at hM
  refine va_calli (va_runVN (As := As') (rest := rest) ⟨hx, hb, hml, hown, hts⟩ hM cwl ⟨fun a U g mk q => ?_, g_recv hE.1.1 hat hcl, fun U hU hW => ⟨rfl, by rw [hU]; exact hI.1, hI.env hE hU hW⟩⟩ rfl hn hlsz hst hW hdg ⟨hc.1, hc.2⟩) hI.2 (fun q _ h => h) (fun q h => h) (fun r' u t H1 locs1 ht hvm hp hB hz1 hk1 hS => ?_)
  · obtain ⟨q0, qP, qE⟩ := q
    exact ⟨q0, qP, qE.go (State.WarmedH.refl U) (fun _ _ _ => rfl)⟩
  · have hr' : r' = r := hp
    subst hr'
    exact kk H1 locs1 ⟨by rw [← ht]; exact hB, hS⟩

theorem ccallVN (hx : p.tables.exec = Jvm.exec) (hb : c.code = cc) (hts : ∀ w ∈ lw_all, w.before args s = true) {own host : String} (hown : s.vm.findClass own = some m.cls) (hE : ECC D J o z aK aV G Ld aF Λ Λn s) (hI : IC D J o Ld s H locs σ) {nL : Nat} (hml : c.maxLocals = nL) (hlsz : ls.size = nL)
    {y : MethodName} {cd : ByteArray} {nL' fr lo n index b ci N : Nat} {fs : List Value} {C : String} {T : u_T} {ret : Option FieldType} {As : Nat → (Nat → Nat) → (Nat → Nat) → List Value} {As' : List Value} (hM : CMv y cd nL' ret fr lo Λ Λn As σ σ') (cwl : va_CN R s args own index y host cd nL' ret (ws_ y cd nL' ret) ({ frames := fr, cells := 0, slots := 0, locals := lo }) 0 0 n ∧ (Cond.instanceMethod y).before args s = true ∧ (Cond.selects C y y).before args s = true) (hat : va_at D vwC (b, .inr (ci, fs)) H) (hcl : vwC[ci]? = some (C, T, N)) (hAs : As o aK aF = .ref b :: As')
    (hc : cells ≤ R.cells ∧ slots ≤ R.slots) (hn : As'.length = n) {st : List Value} (hst : st = As'.reverse ++ .ref b :: rest) (hW : 2 * (F0 m pc ls st).monitorRoom + (rest.map fun v => v.category).sum ≤ 8) (hdg : decode cc pc = .ok (.invokevirtual index, 3))
    (kk : ∀ (H1 : Heap) (locs1 : List Loc), IC D J o Ld s H1 locs1 σ' → W p l e R s m args below meth c H1 locs1 cells slots Q (F0 m (pc + 3) ls (rest))) : W p l e R s m args below meth c H locs cells slots Q (F0 m pc ls st) := by
  have hM := hM l D J o z aK aV G Ld aF
  rw [hAs] at hM
  refine va_callv (va_runVN (As := As') (rest := rest) ⟨hx, hb, hml, hown, hts⟩ hM cwl ⟨fun a U g mk q => ?_, g_recv hE.1.1 hat hcl, fun U hU hW => ⟨rfl, by rw [hU]; exact hI.1, hI.env hE hU hW⟩⟩ rfl hn hlsz hst hW hdg ⟨hc.1, hc.2⟩) hI.2 (fun q _ h => h) (fun q h => h) (fun u t H1 locs1 ht hvm hp hB hz1 hk1 hS => ?_)
  · obtain ⟨q0, qP, qE⟩ := q
    exact ⟨q0, qP, qE.go (State.WarmedH.refl U) (fun _ _ _ => rfl)⟩
  · exact kk H1 locs1 ⟨by rw [← ht]; exact hB, hS⟩

theorem ccallRN (hx : p.tables.exec = Jvm.exec) (hb : c.code = cc) (hts : ∀ w ∈ lw_all, w.before args s = true) {own host : String} (hown : s.vm.findClass own = some m.cls) (hE : ECC D J o z aK aV G Ld aF Λ Λn s) (hI : IC D J o Ld s H locs σ) {nL : Nat} (hml : c.maxLocals = nL) (hlsz : ls.size = nL)
    {y : MethodName} {cd : ByteArray} {nL' fr lo n index b ci N : Nat} {fs : List Value} {C : String} {T : u_T} {ret : Option FieldType} {As : Nat → (Nat → Nat) → (Nat → Nat) → List Value} {As' : List Value} {r : Nat → Nat} (hM : CMr y cd nL' ret fr lo Λ Λn As r σ σ') (cwl : va_CN R s args own index y host cd nL' ret (ws_ y cd nL' ret) ({ frames := fr, cells := 0, slots := 0, locals := lo }) 0 0 n ∧ (Cond.instanceMethod y).before args s = true ∧ (Cond.selects C y y).before args s = true) (hat : va_at D vwC (b, .inr (ci, fs)) H) (hcl : vwC[ci]? = some (C, T, N)) (hAs : As o aK aF = .ref b :: As')
    (hc : cells ≤ R.cells ∧ slots ≤ R.slots) (hn : As'.length = n) {st : List Value} (hst : st = As'.reverse ++ .ref b :: rest) (hW : 2 * (F0 m pc ls st).monitorRoom + (rest.map fun v => v.category).sum ≤ 8) (hdg : decode cc pc = .ok (.invokevirtual index, 3))
    (kk : ∀ (H1 : Heap) (locs1 : List Loc), IC D J o Ld s H1 locs1 σ' → W p l e R s m args below meth c H1 locs1 cells slots Q (F0 m (pc + 3) ls (.ref (r o) :: rest))) : W p l e R s m args below meth c H locs cells slots Q (F0 m pc ls st) := by
  have hM := hM l D J o z aK aV G Ld aF
  rw [hAs] at hM
  refine va_callr (va_runVN (As := As') (rest := rest) ⟨hx, hb, hml, hown, hts⟩ hM cwl ⟨fun a U g mk q => ?_, g_recv hE.1.1 hat hcl, fun U hU hW => ⟨rfl, by rw [hU]; exact hI.1, hI.env hE hU hW⟩⟩ rfl hn hlsz hst hW hdg ⟨hc.1, hc.2⟩) hI.2 (fun q _ h => h) (fun q h => h) (fun a u t H1 locs1 ht hvm hp hB hz1 hk1 hS => ?_)
  · obtain ⟨q0, qP, qE⟩ := q
    exact ⟨q0, qP, qE.go (State.WarmedH.refl U) (fun _ _ _ => rfl)⟩
  · obtain ⟨ha, hB⟩ := hB
    subst ha
    exact kk H1 locs1 ⟨by rw [← ht]; exact hB, hS⟩

end NCALLS