/-! THE LAW READ: methods that read the law's objects and a scene; nothing is written -/
def Keep (Φ : State → Prop) : Prop := ∀ U U' : State, U.WarmedH U'.vm → U'.heap = U.heap → Φ U → Φ U'
def RDi (y : MethodName) (cd : ByteArray) (nL : Nat) (ret : Option FieldType) (fr lo : Nat) (As : List Value) (Φ : State → Prop) (r : Int32) : Prop :=
  ∀ (l : Launch), Met l y (ws_ y cd nL ret) ({ frames := fr, cells := 0, slots := 0, locals := lo }) (va_Pc As Φ) (vp_Si (fun x => x = r)) 0 0 (fun _ => False)
def rd_Sr (a : Nat) : Array Value → State → Outcome → State → Prop := fun _ st o t => o = .returned (some (.ref a)) ∧ t.heap = st.heap
def RDr (y : MethodName) (cd : ByteArray) (nL : Nat) (ret : Option FieldType) (fr lo : Nat) (As : List Value) (Φ : State → Prop) (a : Nat) : Prop :=
  ∀ (l : Launch), Met l y (ws_ y cd nL ret) ({ frames := fr, cells := 0, slots := 0, locals := lo }) (va_Pc As Φ) (rd_Sr a) 0 0 (fun _ => False)
section LREAD
variable {p : Program} {l : Launch} {e : Env} {R : Room} {s : State} {m : MethodId} {args : Array Value} {below : List Frame} {meth : Method} {c : Code} {H : Heap} {locs : List Loc} {cells slots : Nat} {Q : State → Prop}
variable {cc : ByteArray} {pc : Nat} {ls : Array Slot} {rest : List Value}
theorem rcallI (hx : p.tables.exec = Jvm.exec) (hb : c.code = cc) (hts : ∀ w ∈ lw_all, w.before args s = true) {own C : String} (hown : s.vm.findClass own = some m.cls) {nL : Nat} (hml : c.maxLocals = nL) (hlsz : ls.size = nL)
    {y : MethodName} {cd : ByteArray} {nL' fr lo n index b : Nat} {ret : Option FieldType} {As : List Value} {Φ : State → Prop} {r : Int32} (hM : RDi y cd nL' ret fr lo (.ref b :: As) Φ r) (cwl : CallW R s args own C index y cd nL' ret (ws_ y cd nL' ret) ({ frames := fr, cells := 0, slots := 0, locals := lo }) 0 0 n) (hk : Keep Φ) (hrec : ∃ cellB : Cell, H[b]? = some cellB ∧ cellB.vm.isStatics = false ∧ s.vm.findClass C = some cellB.cls) (hphi : ∀ U : State, U.heap = H → s.WarmedH U.vm → Φ U)
    (hc : cells ≤ R.cells ∧ slots ≤ R.slots) (hn : As.length = n) {st : List Value} (hst : st = As.reverse ++ .ref b :: rest) (hW : 2 * (F0 m pc ls st).monitorRoom + (rest.map fun v => v.category).sum ≤ 8) (hdg : decode cc pc = .ok (.invokevirtual index, 3))
    (kk : W p l e R s m args below meth c H locs cells slots Q (F0 m (pc + 3) ls (.int r :: rest))) : W p l e R s m args below meth c H locs cells slots Q (F0 m pc ls st) := by
  intro T hT X
  obtain ⟨v, st₀, t, T', L, h0, X', hL, e1, e2, ⟨r', hv, hp, hh⟩, stp⟩ := va_runV (As := As) (rest := rest) ⟨hx, hb, hml, hown, hts⟩ (hM l) cwl ⟨fun a U g mk q => ⟨q.1, hk _ _ (State.WarmedH.refl U) rfl q.2⟩, hrec, fun U hU hW => ⟨rfl, hphi U hU hW⟩⟩ rfl hn hlsz hst hW hdg ⟨hc.1, hc.2⟩ T hT X
  have hL0 : L = [] := noloc hL
  subst hL0
  cases hv
  have hr' : r' = r := hp
  subst hr'
  rw [List.append_nil] at X'
  obtain ⟨t2, a1, b1⟩ := kk T' (by rw [e1, hh, h0]) X'
  exact ⟨t2, stp t2 a1, b1⟩
theorem rcallR (hx : p.tables.exec = Jvm.exec) (hb : c.code = cc) (hts : ∀ w ∈ lw_all, w.before args s = true) {own C : String} (hown : s.vm.findClass own = some m.cls) {nL : Nat} (hml : c.maxLocals = nL) (hlsz : ls.size = nL)
    {y : MethodName} {cd : ByteArray} {nL' fr lo n index b ra : Nat} {ret : Option FieldType} {As : List Value} {Φ : State → Prop} (hM : RDr y cd nL' ret fr lo (.ref b :: As) Φ ra) (cwl : CallW R s args own C index y cd nL' ret (ws_ y cd nL' ret) ({ frames := fr, cells := 0, slots := 0, locals := lo }) 0 0 n) (hk : Keep Φ) (hrec : ∃ cellB : Cell, H[b]? = some cellB ∧ cellB.vm.isStatics = false ∧ s.vm.findClass C = some cellB.cls) (hphi : ∀ U : State, U.heap = H → s.WarmedH U.vm → Φ U)
    (hc : cells ≤ R.cells ∧ slots ≤ R.slots) (hn : As.length = n) {st : List Value} (hst : st = As.reverse ++ .ref b :: rest) (hW : 2 * (F0 m pc ls st).monitorRoom + (rest.map fun v => v.category).sum ≤ 8) (hdg : decode cc pc = .ok (.invokevirtual index, 3))
    (kk : W p l e R s m args below meth c H locs cells slots Q (F0 m (pc + 3) ls (.ref ra :: rest))) : W p l e R s m args below meth c H locs cells slots Q (F0 m pc ls st) := by
  intro T hT X
  obtain ⟨v, st₀, t, T', L, h0, X', hL, e1, e2, ⟨hv, hh⟩, stp⟩ := va_runV (As := As) (rest := rest) ⟨hx, hb, hml, hown, hts⟩ (hM l) cwl ⟨fun a U g mk q => ⟨q.1, hk _ _ (State.WarmedH.refl U) rfl q.2⟩, hrec, fun U hU hW => ⟨rfl, hphi U hU hW⟩⟩ rfl hn hlsz hst hW hdg ⟨hc.1, hc.2⟩ T hT X
  have hL0 : L = [] := noloc hL
  subst hL0
  cases hv
  rw [List.append_nil] at X'
  obtain ⟨t2, a1, b1⟩ := kk T' (by rw [e1, hh, h0]) X'
  exact ⟨t2, stp t2 a1, b1⟩
/-- an inherited method -/
theorem rcallU (hx : p.tables.exec = Jvm.exec) (hb : c.code = cc) (hts : ∀ w ∈ lw_all, w.before args s = true) {own C owner : String} (hown : s.vm.findClass own = some m.cls) {nL : Nat} (hml : c.maxLocals = nL) (hlsz : ls.size = nL)
    {x y : MethodName} {cd : ByteArray} {nL' fr lo n index b : Nat} {ret : Option FieldType} {As : List Value} {Φ : State → Prop} {r : Int32} (hM : RDi y cd nL' ret fr lo (.ref b :: As) Φ r) (cwl : va_CU R s args own C owner index x y cd nL' ret (ws_ y cd nL' ret) ({ frames := fr, cells := 0, slots := 0, locals := lo }) 0 0 n) (hk : Keep Φ) (hrec : ∃ cellB : Cell, H[b]? = some cellB ∧ cellB.vm.isStatics = false ∧ s.vm.findClass C = some cellB.cls) (hphi : ∀ U : State, U.heap = H → s.WarmedH U.vm → Φ U)
    (hc : cells ≤ R.cells ∧ slots ≤ R.slots) (hn : As.length = n) {st : List Value} (hst : st = As.reverse ++ .ref b :: rest) (hW : 2 * (F0 m pc ls st).monitorRoom + (rest.map fun v => v.category).sum ≤ 8) (hdg : decode cc pc = .ok (.invokevirtual index, 3))
    (kk : W p l e R s m args below meth c H locs cells slots Q (F0 m (pc + 3) ls (.int r :: rest))) : W p l e R s m args below meth c H locs cells slots Q (F0 m pc ls st) := by
  intro T hT X
  obtain ⟨v, st₀, t, T', L, h0, X', hL, e1, e2, ⟨r', hv, hp, hh⟩, stp⟩ := va_runU (As := As) (rest := rest) ⟨hx, hb, hml, hown, hts⟩ (hM l) cwl ⟨fun a U g mk q => ⟨q.1, hk _ _ (State.WarmedH.refl U) rfl q.2⟩, hrec, fun U hU hW => ⟨rfl, hphi U hU hW⟩⟩ rfl hn hlsz hst hW hdg ⟨hc.1, hc.2⟩ T hT X
  have hL0 : L = [] := noloc hL
  subst hL0
  cases hv
  have hr' : r' = r := hp
  subst hr'
  rw [List.append_nil] at X'
  obtain ⟨t2, a1, b1⟩ := kk T' (by rw [e1, hh, h0]) X'
  exact ⟨t2, stp t2 a1, b1⟩
/-- a call through an interface -/
theorem rcallF (hx : p.tables.exec = Jvm.exec) (hb : c.code = cc) (hts : ∀ w ∈ lw_all, w.before args s = true) {own C : String} {cC : ClassId} (hcat : ClassAt s C cC) (hown : s.vm.findClass own = some m.cls) {nL : Nat} (hml : c.maxLocals = nL) (hlsz : ls.size = nL)
    {x y : MethodName} {cd : ByteArray} {nL' fr lo n index count b : Nat} {ret : Option FieldType} {As : List Value} {Φ : State → Prop} {r : Int32} (hM : RDi y cd nL' ret fr lo (.ref b :: As) Φ r) (cwl : va_CI R s args own C index x y cd nL' ret (ws_ y cd nL' ret) ({ frames := fr, cells := 0, slots := 0, locals := lo }) 0 0 n) (hk : Keep Φ) (hrec : ∃ cellB : Cell, H[b]? = some cellB ∧ cellB.vm.isStatics = false ∧ s.vm.findClass C = some cellB.cls) (hphi : ∀ U : State, U.heap = H → s.WarmedH U.vm → Φ U)
    (hc : cells ≤ R.cells ∧ slots ≤ R.slots) (hn : As.length = n) {st : List Value} (hst : st = As.reverse ++ .ref b :: rest) (hW : 2 * (F0 m pc ls st).monitorRoom + (rest.map fun v => v.category).sum ≤ 8) (hdg : decode cc pc = .ok (.invokeinterface index count, 5))
    (kk : W p l e R s m args below meth c H locs cells slots Q (F0 m (pc + 5) ls (.int r :: rest))) : W p l e R s m args below meth c H locs cells slots Q (F0 m pc ls st) := by
  intro T hT X
  obtain ⟨v, st₀, t, T', L, h0, X', hL, e1, e2, ⟨r', hv, hp, hh⟩, stp⟩ := va_runF (As := As) (rest := rest) hcat ⟨hx, hb, hml, hown, hts⟩ (hM l) cwl ⟨fun a U g mk q => ⟨q.1, hk _ _ (State.WarmedH.refl U) rfl q.2⟩, hrec, fun U hU hW => ⟨rfl, hphi U hU hW⟩⟩ rfl hn hlsz hst hW hdg ⟨hc.1, hc.2⟩ T hT X
  have hL0 : L = [] := noloc hL
  subst hL0
  cases hv
  have hr' : r' = r := hp
  subst hr'
  rw [List.append_nil] at X'
  obtain ⟨t2, a1, b1⟩ := kk T' (by rw [e1, hh, h0]) X'
  exact ⟨t2, stp t2 a1, b1⟩
end LREAD
theorem RDi.of {y : MethodName} {cd : ByteArray} {nL fr lo : Nat} {As : List Value} {Φ : State → Prop} {r : Int32} (hy : plainName y.cls = true) (hlen : (lg_sl As).length ≤ nL)
    (body : ∀ (p : Program) (l : Launch) (e : Env) (s : State) (m : MethodId) (args : Array Value) (below : List Frame) (meth : Method) (c : Code) (Q : State → Prop) (ls : Array Slot), p.tables.exec = Jvm.exec → c.code = cd → c.maxLocals = nL → s.vm.findClass y.cls = some m.cls → (∀ w ∈ lw_all, w.before args s = true) → Φ s →
      (∀ (pc : Nat) (ls : Array Slot), decode cd pc = .ok (.ireturn, 1) → W p l e ({ frames := fr, cells := 0, slots := 0, locals := lo } : Room) s m args below meth c s.heap [] 0 0 Q (F0 m pc ls [.int r])) →
      lv_has ls nL (lv_args 0 As) → W p l e ({ frames := fr, cells := 0, slots := 0, locals := lo } : Room) s m args below meth c s.heap [] 0 0 Q (F0 m 0 ls [])) : RDi y cd nL (some .int) fr lo As Φ r := by
  intro l
  refine Met.ofW (cc := cd) (maxL := nL) (ret := some .int) hy rfl ?_
  intro p e s m args below meth c s₁ B hml hv
  obtain ⟨rfl, hphi⟩ := hv
  have hts := atoms_spec (ws := ws_ y cd nL (some .int)) B.pre
  have hts : ∀ w ∈ lw_all, w.before _ s = true := fun w h => hts w (List.mem_cons_of_mem _ h)
  have hl := lv_entry As (n := nL) hlen
  rw [lg_entry_eq]
  generalize (lg_sl As ++ List.replicate (nL - (lg_sl As).length) Slot.unset).toArray = ls at hl ⊢
  exact body p l e s m _ below meth c _ ls B.exec B.bytes hml (findClass_of_methodNamed B.named) hts hphi (fun pc ls hdg => sretI B.exec B.bytes B.returns B.notSynchronized rfl hdg) hl
theorem RDz.of {y : MethodName} {cd : ByteArray} {nL fr lo : Nat} {As : List Value} {Φ : State → Prop} {r : Int32} (hy : plainName y.cls = true) (hlen : (lg_sl As).length ≤ nL)
    (body : ∀ (p : Program) (l : Launch) (e : Env) (s : State) (m : MethodId) (args : Array Value) (below : List Frame) (meth : Method) (c : Code) (Q : State → Prop) (ls : Array Slot), p.tables.exec = Jvm.exec → c.code = cd → c.maxLocals = nL → s.vm.findClass y.cls = some m.cls → (∀ w ∈ lw_all, w.before args s = true) → Φ s →
      (∀ (pc : Nat) (ls : Array Slot), (r = 0 ∨ r = 1) → decode cd pc = .ok (.ireturn, 1) → W p l e ({ frames := fr, cells := 0, slots := 0, locals := lo } : Room) s m args below meth c s.heap [] 0 0 Q (F0 m pc ls [.int r])) →
      lv_has ls nL (lv_args 0 As) → W p l e ({ frames := fr, cells := 0, slots := 0, locals := lo } : Room) s m args below meth c s.heap [] 0 0 Q (F0 m 0 ls [])) : RDi y cd nL (some .boolean) fr lo As Φ r := by
  intro l
  refine Met.ofW (cc := cd) (maxL := nL) (ret := some .boolean) hy rfl ?_
  intro p e s m args below meth c s₁ B hml hv
  obtain ⟨rfl, hphi⟩ := hv
  have hts := atoms_spec (ws := ws_ y cd nL (some .boolean)) B.pre
  have hts : ∀ w ∈ lw_all, w.before _ s = true := fun w h => hts w (List.mem_cons_of_mem _ h)
  have hl := lv_entry As (n := nL) hlen
  rw [lg_entry_eq]
  generalize (lg_sl As ++ List.replicate (nL - (lg_sl As).length) Slot.unset).toArray = ls at hl ⊢
  exact body p l e s m _ below meth c _ ls B.exec B.bytes hml (findClass_of_methodNamed B.named) hts hphi (fun pc ls h01 hdg => sretZ B.exec B.bytes B.returns B.notSynchronized rfl h01 hdg) hl
theorem RDr.of {y : MethodName} {cd : ByteArray} {nL fr lo : Nat} {As : List Value} {Φ : State → Prop} {a : Nat} (hy : plainName y.cls = true) (hlen : (lg_sl As).length ≤ nL)
    (body : ∀ (p : Program) (l : Launch) (e : Env) (s : State) (m : MethodId) (args : Array Value) (below : List Frame) (meth : Method) (c : Code) (Q : State → Prop) (ls : Array Slot), p.tables.exec = Jvm.exec → c.code = cd → c.maxLocals = nL → s.vm.findClass y.cls = some m.cls → (∀ w ∈ lw_all, w.before args s = true) → Φ s →
      (∀ (pc : Nat) (ls : Array Slot), decode cd pc = .ok (.areturn, 1) → W p l e ({ frames := fr, cells := 0, slots := 0, locals := lo } : Room) s m args below meth c s.heap [] 0 0 Q (F0 m pc ls [.ref a])) →
      lv_has ls nL (lv_args 0 As) → W p l e ({ frames := fr, cells := 0, slots := 0, locals := lo } : Room) s m args below meth c s.heap [] 0 0 Q (F0 m 0 ls [])) : RDr y cd nL (some (.object "java/lang/Object")) fr lo As Φ a := by
  intro l
  refine Met.ofW (cc := cd) (maxL := nL) (ret := some (.object "java/lang/Object")) hy rfl ?_
  intro p e s m args below meth c s₁ B hml hv
  obtain ⟨rfl, hphi⟩ := hv
  have hts := atoms_spec (ws := ws_ y cd nL (some (.object "java/lang/Object"))) B.pre
  have hts : ∀ w ∈ lw_all, w.before _ s = true := fun w h => hts w (List.mem_cons_of_mem _ h)
  have hl := lv_entry As (n := nL) hlen
  rw [lg_entry_eq]
  generalize (lg_sl As ++ List.replicate (nL - (lg_sl As).length) Slot.unset).toArray = ls at hl ⊢
  exact body p l e s m _ below meth c _ ls B.exec B.bytes hml (findClass_of_methodNamed B.named) hts hphi (fun pc ls hdg => W.aret B.exec B.bytes B.returns (Or.inl ⟨_, rfl⟩) (Or.inr ⟨a, rfl⟩) (fun t ht hW => ⟨rfl, ht⟩) (fun _ h => nomatch h) hdg B.notSynchronized) hl

abbrev fsSc (g : Nat → Int32) : List Value := [.int (g 0), .int (g 1), .int (g 2), .int (g 3), .int (g 4), .int (g 5), .int (g 6), .int (g 7), .int (g 8)]
def LX (D : va_G) (J : Nat → ClassId) (z : Nat) (aK aV aF : Nat → Nat) (sc : Nat) (g : Nat → Int32) (U : State) : Prop := EC D J z aK aV U ∧ EnumE z aF U ∧ FaceE U ∧ va_at D vwC (sc, .inr (3, fsSc g)) U.heap ∧ (g 7 = 0 ∨ g 7 = 1) ∧ (g 8 = 0 ∨ g 8 = 1)
theorem LX.keep {D : va_G} {J : Nat → ClassId} {z : Nat} {aK aV aF : Nat → Nat} {sc : Nat} {g : Nat → Int32} : Keep (LX D J z aK aV aF sc g) := fun U U' hW hh h => ⟨h.1.go hW (fun q _ _ => by rw [hh]), h.2.1.go hW (fun q _ _ => by rw [hh]), h.2.2.1.go hW, by rw [hh]; exact h.2.2.2.1, h.2.2.2.2⟩
/-- .. with something of the heap alone -/
theorem Keep.and {Φ : State → Prop} (h : Keep Φ) {B : Heap → Prop} : Keep (fun U => Φ U ∧ B U.heap) := fun U U' hW hh h1 => ⟨h U U' hW hh h1.1, by rw [hh]; exact h1.2⟩
theorem StrE.keep {z : Nat} {aK aV : Nat → Nat} : Keep (StrE z aK aV) := fun U U' hW hh h => h.go hW (fun q _ _ => by rw [hh])
theorem EC.keep {D : va_G} {J : Nat → ClassId} {z : Nat} {aK aV : Nat → Nat} : Keep (EC D J z aK aV) := fun U U' hW hh h => h.go hW (fun q _ _ => by rw [hh])
theorem EnumE.keep {z : Nat} {aF : Nat → Nat} : Keep (EnumE z aF) := fun U U' hW hh h => h.go hW (fun q _ _ => by rw [hh])

theorem mJ18_ordinal (z : Nat) (aF : Nat → Nat) (i : Nat) (hi : i < 7) : RDi yJ18_ordinal cJ18_ordinal 1 (some .int) 1 40 [.ref (aF i)] (EnumE z aF) (nI i) := by
  refine RDi.of (by decide) (Nat.le_of_ble_eq_true rfl) ?_
  intro p l e s m args below meth c Q ls hx hb hml hown hts hX hret hl
  have hl : lv_has ls 1 [(0, .ref (aF i))] := hl
  refine lv_aload_n hx hb dJ18_ordinal_0 rfl (lv_at hl 0 rfl) ?_
  refine vk_getf (A := zZ z) hx hb (hX.2.1 i hi).1 va_S.rf hown (hts _ q2798) (fun _ h => h) dJ18_ordinal_1 ?_
  exact hret 4 ls dJ18_ordinal_4
theorem cwJ18_ordinal_X4 {R : Room} {s : State} {args : Array Value} {fr lo : Nat} (hts : ∀ w ∈ lw_all, w.before args s = true) (hR : fr + 1 ≤ R.frames ∧ 8 + (1 + 11) + lo ≤ R.locals) : va_CU R s args RX4 "LateInks$Fact" "java/lang/Enum" 7 ⟨"LateInks$Fact", "ordinal", "()I"⟩ yJ18_ordinal cJ18_ordinal 1 (some .int) (ws_ yJ18_ordinal cJ18_ordinal 1 (some .int)) ({ frames := fr, cells := 0, slots := 0, locals := lo }) 0 0 0 :=
  va_cwU 0 hts (by
    unfold va_wsU
    refine lw_app ?_ (lw_meth q650)
    intro w hw
    simp only [List.mem_cons, List.not_mem_nil, or_false] at hw
    rcases hw with rfl | rfl | rfl | rfl | rfl
    · exact q645
    · exact q646
    · exact q648
    · exact q649
    · exact q162) rfl rfl rfl rfl (by decide +kernel) hR
theorem mX4_of (D : va_G) (J : Nat → ClassId) (z : Nat) (aK aV aF : Nat → Nat) (sc : Nat) (g : Nat → Int32) (G : Nat → Prop) (i : Nat) (hi : i < 7) : RDi yX4_of cX4_of 2 (some .int) 2 100 [.ref sc, .ref (aF i)] (LX D J z aK aV aF sc g) (g i) := by
  refine RDi.of (by decide) (Nat.le_of_ble_eq_true rfl) ?_
  intro p l e s m args below meth c Q ls hx hb hml hown hts hX hret hl
  have hl : lv_has ls 2 [(0, .ref sc), (1, .ref (aF i))] := hl
  refine lv_aload_n hx hb dX4_of_0 rfl (lv_at hl 1 rfl) ?_
  have hrec : ∃ cellB : Cell, s.heap[aF i]? = some cellB ∧ cellB.vm.isStatics = false ∧ s.vm.findClass "LateInks$Fact" = some cellB.cls := by
    obtain ⟨cell, h1, h2, h3, h4⟩ := (hX.2.1.2.1 i hi).2
    exact ⟨cell, h1, h2, h3⟩
  refine rcallU (rest := []) hx hb hts hown hml hl.1 (mJ18_ordinal z aF i hi) (cwJ18_ordinal_X4 hts ⟨Nat.le_of_ble_eq_true rfl, Nat.le_of_ble_eq_true rfl⟩) EnumE.keep hrec (fun U hU hW => EnumE.keep _ _ hW hU hX.2.1) ⟨Nat.zero_le _, Nat.zero_le _⟩ rfl rfl (lv_room (Nat.le_of_ble_eq_true rfl)) dX4_of_1 ?_
  match i, hi with
  | 0, _ =>
    refine lv_tableIn (off := 40) (tgt := 44) hx hb dX4_of_4 (by decide) (by decide) rfl (by decide) ?_
    refine lv_aload_n hx hb dX4_of_44 rfl (lv_at hl 0 rfl) ?_
    refine gget hx hb hts in_X4 hown hX.1.1 hX.2.2.2.1 rfl 0 (by decide) q359 rfl dX4_of_45 ?_
    exact hret 48 ls dX4_of_48
  | 1, _ =>
    refine lv_tableIn (off := 45) (tgt := 49) hx hb dX4_of_4 (by decide) (by decide) rfl (by decide) ?_
    refine lv_aload_n hx hb dX4_of_49 rfl (lv_at hl 0 rfl) ?_
    refine gget hx hb hts in_X4 hown hX.1.1 hX.2.2.2.1 rfl 1 (by decide) q361 rfl dX4_of_50 ?_
    exact hret 53 ls dX4_of_53
  | 2, _ =>
    refine lv_tableIn (off := 50) (tgt := 54) hx hb dX4_of_4 (by decide) (by decide) rfl (by decide) ?_
    refine lv_aload_n hx hb dX4_of_54 rfl (lv_at hl 0 rfl) ?_
    refine gget hx hb hts in_X4 hown hX.1.1 hX.2.2.2.1 rfl 2 (by decide) q363 rfl dX4_of_55 ?_
    exact hret 58 ls dX4_of_58
  | 3, _ =>
    refine lv_tableIn (off := 55) (tgt := 59) hx hb dX4_of_4 (by decide) (by decide) rfl (by decide) ?_
    refine lv_aload_n hx hb dX4_of_59 rfl (lv_at hl 0 rfl) ?_
    refine gget hx hb hts in_X4 hown hX.1.1 hX.2.2.2.1 rfl 3 (by decide) q365 rfl dX4_of_60 ?_
    exact hret 63 ls dX4_of_63
  | 4, _ =>
    refine lv_tableIn (off := 60) (tgt := 64) hx hb dX4_of_4 (by decide) (by decide) rfl (by decide) ?_
    refine lv_aload_n hx hb dX4_of_64 rfl (lv_at hl 0 rfl) ?_
    refine gget hx hb hts in_X4 hown hX.1.1 hX.2.2.2.1 rfl 4 (by decide) q367 rfl dX4_of_65 ?_
    exact hret 68 ls dX4_of_68
  | 5, _ =>
    refine lv_tableIn (off := 65) (tgt := 69) hx hb dX4_of_4 (by decide) (by decide) rfl (by decide) ?_
    refine lv_aload_n hx hb dX4_of_69 rfl (lv_at hl 0 rfl) ?_
    refine gget hx hb hts in_X4 hown hX.1.1 hX.2.2.2.1 rfl 5 (by decide) q369 rfl dX4_of_70 ?_
    exact hret 73 ls dX4_of_73
  | 6, _ =>
    refine lv_tableOut (tgt := 74) hx hb dX4_of_4 (Or.inr (by decide)) (by decide) ?_
    refine lv_aload_n hx hb dX4_of_74 rfl (lv_at hl 0 rfl) ?_
    refine gget hx hb hts in_X4 hown hX.1.1 hX.2.2.2.1 rfl 6 (by decide) q371 rfl dX4_of_75 ?_
    exact hret 78 ls dX4_of_78
theorem cwX4_of_X16 {R : Room} {s : State} {args : Array Value} {fr lo : Nat} (hts : ∀ w ∈ lw_all, w.before args s = true) (hR : fr + 1 ≤ R.frames ∧ 8 + (2 + 11) + lo ≤ R.locals) : CallW R s args RX16 RX4 17 yX4_of cX4_of 2 (some .int) (ws_ yX4_of cX4_of 2 (some .int)) ({ frames := fr, cells := 0, slots := 0, locals := lo }) 0 0 1 :=
  cwV 1 hts (lw_V q641 q642 q643 q137 q644) rfl rfl rfl (by decide +kernel) hR
theorem mX16_in (D : va_G) (J : Nat → ClassId) (z : Nat) (aK aV aF : Nat → Nat) (sc : Nat) (g : Nat → Int32) (G : Nat → Prop) (q : Nat) (f : (Nat → Int32) → Int32) : RDi yX16_in cX16_in 2 (some .int) 3 200 [.ref q, .ref sc] (fun U => LX D J z aK aV aF sc g U ∧ PartAt D G aF q f U.heap) (f g) := by
  refine RDi.of (by decide) (Nat.le_of_ble_eq_true rfl) ?_
  intro p l e s m args below meth c Q ls hx hb hml hown hts hX hret hl
  have hl : lv_has ls 2 [(0, .ref q), (1, .ref sc)] := hl
  obtain ⟨hX, hG, ⟨n, h1, rfl⟩ | ⟨n, i, hi, h1, rfl⟩⟩ := hX
  · refine lv_aload_n hx hb dX16_in_0 rfl (lv_at hl 0 rfl) ?_
    refine gget hx hb hts in_X16 hown hX.1.1 h1 rfl 1 (by decide) q1530 rfl dX16_in_1 ?_
    refine lv_ifnonnullN hx hb dX16_in_4 ?_
    refine lv_aload_n hx hb dX16_in_7 rfl (lv_at hl 0 rfl) ?_
    refine gget hx hb hts in_X16 hown hX.1.1 h1 rfl 0 (by decide) q1529 rfl dX16_in_8 ?_
    refine lv_goto (tgt := 22) hx hb dX16_in_11 (by decide) ?_
    exact hret 22 ls dX16_in_22
  · refine lv_aload_n hx hb dX16_in_0 rfl (lv_at hl 0 rfl) ?_
    refine gget hx hb hts in_X16 hown hX.1.1 h1 rfl 1 (by decide) q1530 rfl dX16_in_1 ?_
    refine lv_ifnonnull (tgt := 14) hx hb dX16_in_4 (by decide) ?_
    refine lv_aload_n hx hb dX16_in_14 rfl (lv_at hl 1 rfl) ?_
    refine lv_aload_n hx hb dX16_in_15 rfl (lv_at hl 0 rfl) ?_
    refine gget hx hb hts in_X16 hown hX.1.1 h1 rfl 1 (by decide) q1530 rfl dX16_in_16 ?_
    refine rcallI (rest := []) hx hb hts hown hml hl.1 (mX4_of D J z aK aV aF sc g G i hi) (cwX4_of_X16 hts ⟨Nat.le_of_ble_eq_true rfl, Nat.le_of_ble_eq_true rfl⟩) LX.keep (g_recv hX.1.1 hX.2.2.2.1 rfl) (fun U hU hW => LX.keep _ _ hW hU hX) ⟨Nat.zero_le _, Nat.zero_le _⟩ rfl rfl (lv_room (Nat.le_of_ble_eq_true rfl)) dX16_in_19 ?_
    exact hret 22 ls dX16_in_22
theorem csJ11_checkIndex_J22 {R : Room} {s : State} {args : Array Value} {fr lo : Nat} (hts : ∀ w ∈ lw_all, w.before args s = true) (hR : fr + 1 ≤ R.frames ∧ 8 + (3 + 11) + lo ≤ R.locals) : CallB R s args RJ22 105 yJ11_checkIndex cJ11_checkIndex 3 (some .int) (ws_ yJ11_checkIndex cJ11_checkIndex 3 (some .int)) ({ frames := fr, cells := 0, slots := 0, locals := lo }) 0 0 3 ∧ (Cond.static yJ11_checkIndex).before args s = true :=
  va_cwS 3 hts (lw_S q608 q609 q152 q610) rfl rfl rfl (by decide +kernel) hR
theorem csJ22_checkIndex_J3 {R : Room} {s : State} {args : Array Value} {fr lo : Nat} (hts : ∀ w ∈ lw_all, w.before args s = true) (hR : fr + 1 ≤ R.frames ∧ 8 + (2 + 11) + lo ≤ R.locals) : CallB R s args RJ3 118 yJ22_checkIndex cJ22_checkIndex 2 (some .int) (ws_ yJ22_checkIndex cJ22_checkIndex 2 (some .int)) ({ frames := fr, cells := 0, slots := 0, locals := lo }) 0 0 2 ∧ (Cond.static yJ22_checkIndex).before args s = true :=
  va_cwS 2 hts (lw_S q605 q606 q175 q607) rfl rfl rfl (by decide +kernel) hR
theorem cwJ3_elementData_J3 {R : Room} {s : State} {args : Array Value} {fr lo : Nat} (hts : ∀ w ∈ lw_all, w.before args s = true) (hR : fr + 1 ≤ R.frames ∧ 8 + (2 + 11) + lo ≤ R.locals) : CallW R s args RJ3 RJ3 123 yJ3_elementData cJ3_elementData 2 (some (.object "java/lang/Object")) (ws_ yJ3_elementData cJ3_elementData 2 (some (.object "java/lang/Object"))) ({ frames := fr, cells := 0, slots := 0, locals := lo }) 0 0 1 :=
  cwV 1 hts (lw_V q611 q612 q613 q141 q614) rfl rfl rfl (by decide +kernel) hR
theorem mJ3_size (D : va_G) (J : Nat → ClassId) (z : Nat) (aK aV : Nat → Nat) (q : Nat) (v w : Value) (n : Int32) : RDi yJ3_size cJ3_size 1 (some .int) 1 40 [.ref q] (fun U => EC D J z aK aV U ∧ va_at D vwC (q, .inr (6, [v, w, .int n])) U.heap) n := by
  refine RDi.of (by decide) (Nat.le_of_ble_eq_true rfl) ?_
  intro p l e s m args below meth c Q ls hx hb hml hown hts hX hret hl
  have hl : lv_has ls 1 [(0, .ref q)] := hl
  refine lv_aload_n hx hb dJ3_size_0 rfl (lv_at hl 0 rfl) ?_
  refine gget hx hb hts in_J3 hown hX.1.1 hX.2 rfl 2 (by decide) q436 rfl dJ3_size_1 ?_
  exact hret 4 ls dJ3_size_4
theorem mJ22_checkIndex (i n : Int32) (h0 : ¬ i < 0) (h1 : i < n) : KMi yJ22_checkIndex cJ22_checkIndex 2 (some .int) 2 100 (fun _ _ => [.int i, .int n]) i := by
  refine KMi.of (by decide) rfl (fun _ _ => Nat.le_of_ble_eq_true rfl) ?_
  intro p l e s m args below meth c z aK aV Q ls hx hb hml hown hts hE hret hl
  have hl : lv_has ls 2 [(0, .int i), (1, .int n)] := hl
  refine lv_iload_n hx hb dJ22_checkIndex_0 rfl (lv_at hl 0 rfl) ?_
  refine lv_iload_n hx hb dJ22_checkIndex_1 rfl (lv_at hl 1 rfl) ?_
  refine lv_null hx hb dJ22_checkIndex_2 ?_
  refine kcallS (rest := []) hx hb hts hown hE (fun _ _ _ => rfl) hml hl.1 (mJ11_checkIndex i n .null h0 h1 rfl) (csJ11_checkIndex_J22 hts ⟨Nat.le_of_ble_eq_true rfl, Nat.le_of_ble_eq_true rfl⟩) ⟨Nat.le_of_ble_eq_true rfl, Nat.le_of_ble_eq_true rfl⟩ rfl rfl (lv_room (Nat.le_of_ble_eq_true rfl)) dJ22_checkIndex_3 ?_
  exact hret 6 ls dJ22_checkIndex_6
theorem mJ3_elementData (D : va_G) (J : Nat → ClassId) (z : Nat) (aK aV : Nat → Nat) (G : Nat → Prop) (q n : Nat) (els : Nat → Nat) (k : Nat) (hk : k < n) : RDr yJ3_elementData cJ3_elementData 2 (some (.object "java/lang/Object")) 1 40 [.ref q, .int (nI k)] (fun U => EC D J z aK aV U ∧ ListAt D J G q n els U.heap) (els k) := by
  refine RDr.of (by decide) (Nat.le_of_ble_eq_true rfl) ?_
  intro p l e s m args below meth c Q ls hx hb hml hown hts hX hret hl
  have hl : lv_has ls 2 [(0, .ref q), (1, .int (nI k))] := hl
  obtain ⟨hX, -, mc, arr, cap, f, -, h1, h2, h3, h4, h5⟩ := hX
  refine lv_aload_n hx hb dJ3_elementData_0 rfl (lv_at hl 0 rfl) ?_
  refine gget hx hb hts in_J3 hown hX.1 h1 rfl 1 (by decide) q435 rfl dJ3_elementData_1 ?_
  refine lv_iload_n hx hb dJ3_elementData_4 rfl (lv_at hl 1 rfl) ?_
  refine va_aldq hx hb hX.1 (va_P1 h2) 0 4 rfl rfl (vp_in_nI (Nat.lt_of_lt_of_le hk h3) h4) dJ3_elementData_5 ?_
  rw [nI_clamp (Nat.lt_of_lt_of_le (Nat.lt_of_lt_of_le hk h3) (Nat.le_of_lt h4)), h5 k hk]
  exact hret 6 ls dJ3_elementData_6
theorem mJ3_get (D : va_G) (J : Nat → ClassId) (z : Nat) (aK aV : Nat → Nat) (G : Nat → Prop) (q n : Nat) (els : Nat → Nat) (k : Nat) (hk : k < n) : RDr yJ3_get cJ3_get 2 (some (.object "java/lang/Object")) 3 200 [.ref q, .int (nI k)] (fun U => EC D J z aK aV U ∧ ListAt D J G q n els U.heap) (els k) := by
  refine RDr.of (by decide) (Nat.le_of_ble_eq_true rfl) ?_
  intro p l e s m args below meth c Q ls hx hb hml hown hts hX hret hl
  have hl : lv_has ls 2 [(0, .ref q), (1, .int (nI k))] := hl
  have hX0 := hX
  obtain ⟨hX, -, mc, arr, cap, f, -, h1, h2, h3, h4, h5⟩ := hX
  have hn : n < 2 ^ 31 := Nat.lt_of_le_of_lt h3 h4
  refine lv_iload_n hx hb dJ3_get_0 rfl (lv_at hl 1 rfl) ?_
  refine lv_aload_n hx hb dJ3_get_1 rfl (lv_at hl 0 rfl) ?_
  refine gget hx hb hts in_J3 hown hX.1 h1 rfl 2 (by decide) q436 rfl dJ3_get_2 ?_
  refine kcallS (rest := []) hx hb hts hown hX.2.1 (fun _ _ _ => rfl) hml hl.1 (mJ22_checkIndex (nI k) (nI n) (nI_pos (Nat.lt_trans hk hn)) (nI_lt hk hn)) (csJ22_checkIndex_J3 hts ⟨Nat.le_of_ble_eq_true rfl, Nat.le_of_ble_eq_true rfl⟩) ⟨Nat.le_of_ble_eq_true rfl, Nat.le_of_ble_eq_true rfl⟩ rfl rfl (lv_room (Nat.le_of_ble_eq_true rfl)) dJ3_get_5 ?_
  refine lv_pop hx hb dJ3_get_8 rfl ?_
  refine lv_aload_n hx hb dJ3_get_9 rfl (lv_at hl 0 rfl) ?_
  refine lv_iload_n hx hb dJ3_get_10 rfl (lv_at hl 1 rfl) ?_
  refine rcallR (rest := []) hx hb hts hown hml hl.1 (mJ3_elementData D J z aK aV G q n els k hk) (cwJ3_elementData_J3 hts ⟨Nat.le_of_ble_eq_true rfl, Nat.le_of_ble_eq_true rfl⟩) EC.keep.and (g_recv hX.1 h1 rfl) (fun U hU hW => ⟨EC.keep _ _ hW hU hX, by rw [hU]; exact hX0.2⟩) ⟨Nat.zero_le _, Nat.zero_le _⟩ rfl rfl (lv_room (Nat.le_of_ble_eq_true rfl)) dJ3_get_11 ?_
  exact hret 14 ls dJ3_get_14
theorem cwJ3_size_X15 {R : Room} {s : State} {args : Array Value} {fr lo : Nat} (hts : ∀ w ∈ lw_all, w.before args s = true) (hR : fr + 1 ≤ R.frames ∧ 8 + (1 + 11) + lo ≤ R.locals) : CallW R s args RX15 RJ3 16 yJ3_size cJ3_size 1 (some .int) (ws_ yJ3_size cJ3_size 1 (some .int)) ({ frames := fr, cells := 0, slots := 0, locals := lo }) 0 0 0 :=
  cwV 0 hts (lw_V q634 q598 q599 q141 q600) rfl rfl rfl (by decide +kernel) hR
theorem cwJ3_get_X15 {R : Room} {s : State} {args : Array Value} {fr lo : Nat} (hts : ∀ w ∈ lw_all, w.before args s = true) (hR : fr + 1 ≤ R.frames ∧ 8 + (2 + 11) + lo ≤ R.locals) : CallW R s args RX15 RJ3 20 yJ3_get cJ3_get 2 (some (.object "java/lang/Object")) (ws_ yJ3_get cJ3_get 2 (some (.object "java/lang/Object"))) ({ frames := fr, cells := 0, slots := 0, locals := lo }) 0 0 1 :=
  cwV 1 hts (lw_V q635 q602 q603 q141 q604) rfl rfl rfl (by decide +kernel) hR
theorem cwX16_in_X15 {R : Room} {s : State} {args : Array Value} {fr lo : Nat} (hts : ∀ w ∈ lw_all, w.before args s = true) (hR : fr + 1 ≤ R.frames ∧ 8 + (2 + 11) + lo ≤ R.locals) : CallW R s args RX15 RX16 26 yX16_in cX16_in 2 (some .int) (ws_ yX16_in cX16_in 2 (some .int)) ({ frames := fr, cells := 0, slots := 0, locals := lo }) 0 0 1 :=
  cwV 1 hts (lw_V q637 q638 q639 q169 q640) rfl rfl rfl (by decide +kernel) hR
theorem cwX15_in_X18 {R : Room} {s : State} {args : Array Value} {fr lo : Nat} (hts : ∀ w ∈ lw_all, w.before args s = true) (hR : fr + 1 ≤ R.frames ∧ 8 + (4 + 11) + lo ≤ R.locals) : CallW R s args RX18 RX15 16 yX15_in cX15_in 4 (some .int) (ws_ yX15_in cX15_in 4 (some .int)) ({ frames := fr, cells := 0, slots := 0, locals := lo }) 0 0 1 :=
  cwV 1 hts (lw_V q630 q631 q632 q168 q633) rfl rfl rfl (by decide +kernel) hR
theorem cwJ3_size_X12 {R : Room} {s : State} {args : Array Value} {fr lo : Nat} (hts : ∀ w ∈ lw_all, w.before args s = true) (hR : fr + 1 ≤ R.frames ∧ 8 + (1 + 11) + lo ≤ R.locals) : CallW R s args RX12 RJ3 20 yJ3_size cJ3_size 1 (some .int) (ws_ yJ3_size cJ3_size 1 (some .int)) ({ frames := fr, cells := 0, slots := 0, locals := lo }) 0 0 0 :=
  cwV 0 hts (lw_V q665 q598 q599 q141 q600) rfl rfl rfl (by decide +kernel) hR
theorem cwJ3_get_X12 {R : Room} {s : State} {args : Array Value} {fr lo : Nat} (hts : ∀ w ∈ lw_all, w.before args s = true) (hR : fr + 1 ≤ R.frames ∧ 8 + (2 + 11) + lo ≤ R.locals) : CallW R s args RX12 RJ3 24 yJ3_get cJ3_get 2 (some (.object "java/lang/Object")) (ws_ yJ3_get cJ3_get 2 (some (.object "java/lang/Object"))) ({ frames := fr, cells := 0, slots := 0, locals := lo }) 0 0 1 :=
  cwV 1 hts (lw_V q666 q602 q603 q141 q604) rfl rfl rfl (by decide +kernel) hR
theorem cwJ3_size_X9 {R : Room} {s : State} {args : Array Value} {fr lo : Nat} (hts : ∀ w ∈ lw_all, w.before args s = true) (hR : fr + 1 ≤ R.frames ∧ 8 + (1 + 11) + lo ≤ R.locals) : CallW R s args RX9 RJ3 16 yJ3_size cJ3_size 1 (some .int) (ws_ yJ3_size cJ3_size 1 (some .int)) ({ frames := fr, cells := 0, slots := 0, locals := lo }) 0 0 0 :=
  cwV 0 hts (lw_V q597 q598 q599 q141 q600) rfl rfl rfl (by decide +kernel) hR
theorem cwJ3_get_X9 {R : Room} {s : State} {args : Array Value} {fr lo : Nat} (hts : ∀ w ∈ lw_all, w.before args s = true) (hR : fr + 1 ≤ R.frames ∧ 8 + (2 + 11) + lo ≤ R.locals) : CallW R s args RX9 RJ3 20 yJ3_get cJ3_get 2 (some (.object "java/lang/Object")) (ws_ yJ3_get cJ3_get 2 (some (.object "java/lang/Object"))) ({ frames := fr, cells := 0, slots := 0, locals := lo }) 0 0 1 :=
  cwV 1 hts (lw_V q601 q602 q603 q141 q604) rfl rfl rfl (by decide +kernel) hR
theorem cwX11_holds_X9 {R : Room} {s : State} {args : Array Value} {fr lo : Nat} (hts : ∀ w ∈ lw_all, w.before args s = true) (hR : fr + 1 ≤ R.frames ∧ 8 + (2 + 11) + lo ≤ R.locals) : CallW R s args RX9 RX11 30 yX11_holds cX11_holds 2 (some .boolean) (ws_ yX11_holds cX11_holds 2 (some .boolean)) ({ frames := fr, cells := 0, slots := 0, locals := lo }) 0 0 1 :=
  cwV 1 hts (lw_V q616 q617 q618 q164 q619) rfl rfl rfl (by decide +kernel) hR
theorem PartAt.cell {D : va_G} {G : Nat → Prop} {aF : Nat → Nat} {q : Nat} {f : (Nat → Int32) → Int32} {H : Heap} (h : PartAt D G aF q f H) : ∃ fs, va_at D vwC (q, .inr (13, fs)) H := by
  obtain ⟨-, ⟨n, h1, -⟩ | ⟨n, i, -, h1, -⟩⟩ := h
  · exact ⟨_, h1⟩
  · exact ⟨_, h1⟩
theorem LineAt.cell {D : va_G} {J : Nat → ClassId} {G : Nat → Prop} {aF : Nat → Nat} {q kd : Nat} {n : Int32} {w : (Nat → Int32) → Int32} {H : Heap} (h : LineAt D J G aF q kd n w H) : ∃ v, va_at D vwC (q, .inr (8, [.ref (aF (7 + kd)), .int n, v])) H := by
  obtain ⟨-, -, ⟨h1, -⟩ | ⟨c, d, -, h1, -⟩⟩ := h
  · exact ⟨_, h1⟩
  · exact ⟨_, h1⟩
theorem CondAt.cell {D : va_G} {J : Nat → ClassId} {G : Nat → Prop} {aF : Nat → Nat} {d q : Nat} {f : (Nat → Int32) → Int32} {H : Heap} (h : CondAt D J G aF d q f H) : ∃ (i ci : Nat) (C : String × MethodName) (T : u_T) (N : Nat) (fs : List Value), faceL[i]? = some C ∧ vwC[ci]? = some (C.1, T, N) ∧ va_at D vwC (q, .inr (ci, fs)) H := by
  cases d with
  | zero => exact h.elim
  | succ d =>
    obtain ⟨-, h⟩ := h
    rcases h with ⟨b, -, h2, -⟩ | ⟨a, g, h1, -⟩ | ⟨a, b, g, h, h1, -⟩ | ⟨all, lst, n, els, gs, -, h2, -⟩
    · exact ⟨2, 11, _, _, _, _, rfl, rfl, h2⟩
    · exact ⟨1, 10, _, _, _, _, rfl, rfl, h1⟩
    · exact ⟨3, 14, _, _, _, _, rfl, rfl, h1⟩
    · exact ⟨0, 9, _, _, _, _, rfl, rfl, h2⟩
theorem rowV01 {all : Int32} {n : Nat} {h : Nat → Int32} (ha : all = 0 ∨ all = 1) : rowV all n h = 0 ∨ rowV all n h = 1 := by
  unfold rowV
  split
  · exact ha
  · split
    · exact Or.inr rfl
    · exact Or.inl rfl
theorem CondAt.z01 {D : va_G} {J : Nat → ClassId} {G : Nat → Prop} {aF : Nat → Nat} {d q : Nat} {f : (Nat → Int32) → Int32} {H : Heap} {g : Nat → Int32} (h7 : g 7 = 0 ∨ g 7 = 1) (h8 : g 8 = 0 ∨ g 8 = 1) (h : CondAt D J G aF d q f H) : f g = 0 ∨ f g = 1 := by
  cases d with
  | zero => exact h.elim
  | succ d =>
    obtain ⟨-, h⟩ := h
    rcases h with ⟨b, -, h2, rfl⟩ | ⟨a, g1, h1, -, rfl⟩ | ⟨a, b, g1, g2, h1, -, -, rfl⟩ | ⟨all, lst, n, els, gs, h1, h2, -, -, rfl⟩
    · show (if b = 0 then g 8 else g 7) = 0 ∨ (if b = 0 then g 8 else g 7) = 1
      split
      · exact h8
      · exact h7
    · show (if g1 g = 0 then (1 : Int32) else 0) = 0 ∨ (if g1 g = 0 then (1 : Int32) else 0) = 1
      split
      · exact Or.inr rfl
      · exact Or.inl rfl
    · show (if g1 g < g2 g then (1 : Int32) else 0) = 0 ∨ (if g1 g < g2 g then (1 : Int32) else 0) = 1
      split
      · exact Or.inr rfl
      · exact Or.inl rfl
    · exact rowV01 h1
set_option maxHeartbeats 1000000 in
theorem mX15_in (D : va_G) (J : Nat → ClassId) (z : Nat) (aK aV aF : Nat → Nat) (sc : Nat) (g : Nat → Int32) (G : Nat → Prop) (q : Nat) (f : (Nat → Int32) → Int32) : RDi yX15_in cX15_in 4 (some .int) 5 400 [.ref q, .ref sc] (fun U => LX D J z aK aV aF sc g U ∧ SumAt D J G aF q f U.heap) (f g) := by
  refine RDi.of (by decide) (Nat.le_of_ble_eq_true rfl) ?_
  intro p l e s m args below meth c Q ls hx hb hml hown hts hX hret hl
  have hl : lv_has ls 4 [(0, .ref q), (1, .ref sc)] := hl
  obtain ⟨hX, hG, lst, n, els, gs, h1, h2, h3, rfl⟩ := hX
  obtain ⟨-, mc, arr, cap, fa, -, a1, a2, a3, a4, a5⟩ := id h2
  have hn : n < 2 ^ 31 := Nat.lt_of_le_of_lt a3 a4
  refine lv_iconst (v := (0 : Int32)) hx hb dX15_in_0 (by decide) ?_
  refine lv_istore_n (lv' := [(2, .int (0 : Int32)), (0, .ref q), (1, .ref sc)]) hx hb dX15_in_1 rfl hl (by decide) rfl (fun ls hl => ?_)
  refine lv_iconst (v := (0 : Int32)) hx hb dX15_in_2 (by decide) ?_
  refine lv_istore_n (lv' := [(3, .int (0 : Int32)), (2, .int (0 : Int32)), (0, .ref q), (1, .ref sc)]) hx hb dX15_in_3 rfl hl (by decide) rfl (fun ls hl => ?_)
  have loop : ∀ (d k : Nat) (ls : Array Slot), k + d = n → lv_has ls 4 [(3, .int (nI k)), (2, .int (sumI k fun i => gs i g)), (0, .ref q), (1, .ref sc)] → W p l e ({ frames := 5, cells := 0, slots := 0, locals := 400 } : Room) s m args below meth c s.heap [] 0 0 Q (F0 m 4 ls []) := by
    intro d
    induction d with
    | zero =>
      intro k ls hk hl
      have hk : k = n := hk
      subst hk
      refine lv_iload_n hx hb dX15_in_4 rfl (lv_at hl 0 rfl) ?_
      refine lv_aload_n hx hb dX15_in_5 rfl (lv_at hl 2 rfl) ?_
      refine gget hx hb hts in_X15 hown hX.1.1 h1 rfl 0 (by decide) q1510 rfl dX15_in_6 ?_
      refine rcallI (rest := [.int (nI k)]) hx hb hts hown hml hl.1 (mJ3_size D J z aK aV lst (.int mc) (.ref arr) (nI k)) (cwJ3_size_X15 hts ⟨Nat.le_of_ble_eq_true rfl, Nat.le_of_ble_eq_true rfl⟩) EC.keep.and (g_recv hX.1.1 a1 rfl) (fun U hU hW => ⟨EC.keep _ _ hW hU hX.1, by rw [hU]; exact a1⟩) ⟨Nat.zero_le _, Nat.zero_le _⟩ rfl rfl (lv_room (Nat.le_of_ble_eq_true rfl)) dX15_in_9 ?_
      refine lv_icmp_ge (tgt := 39) hx hb dX15_in_12 (by decide) (fun _ => ?_) (fun hc => absurd (nI_le (Nat.le_refl k) hn) hc)
      refine lv_iload_n hx hb dX15_in_39 rfl (lv_at hl 1 rfl) ?_
      exact hret 40 ls dX15_in_40
    | succ d ih =>
      intro k ls hk hl
      have hkn : k < n := by omega
      refine lv_iload_n hx hb dX15_in_4 rfl (lv_at hl 0 rfl) ?_
      refine lv_aload_n hx hb dX15_in_5 rfl (lv_at hl 2 rfl) ?_
      refine gget hx hb hts in_X15 hown hX.1.1 h1 rfl 0 (by decide) q1510 rfl dX15_in_6 ?_
      refine rcallI (rest := [.int (nI k)]) hx hb hts hown hml hl.1 (mJ3_size D J z aK aV lst (.int mc) (.ref arr) (nI n)) (cwJ3_size_X15 hts ⟨Nat.le_of_ble_eq_true rfl, Nat.le_of_ble_eq_true rfl⟩) EC.keep.and (g_recv hX.1.1 a1 rfl) (fun U hU hW => ⟨EC.keep _ _ hW hU hX.1, by rw [hU]; exact a1⟩) ⟨Nat.zero_le _, Nat.zero_le _⟩ rfl rfl (lv_room (Nat.le_of_ble_eq_true rfl)) dX15_in_9 ?_
      refine lv_icmp_ge (tgt := 39) hx hb dX15_in_12 (by decide) (fun hc => absurd hc (nI_ge hkn hn)) (fun _ => ?_)
      refine lv_iload_n hx hb dX15_in_15 rfl (lv_at hl 1 rfl) ?_
      refine lv_aload_n hx hb dX15_in_16 rfl (lv_at hl 2 rfl) ?_
      refine gget hx hb hts in_X15 hown hX.1.1 h1 rfl 0 (by decide) q1510 rfl dX15_in_17 ?_
      refine lv_iload_n hx hb dX15_in_20 rfl (lv_at hl 0 rfl) ?_
      refine rcallR (rest := [.int (sumI k fun i => gs i g)]) hx hb hts hown hml hl.1 (mJ3_get D J z aK aV G lst n els k hkn) (cwJ3_get_X15 hts ⟨Nat.le_of_ble_eq_true rfl, Nat.le_of_ble_eq_true rfl⟩) EC.keep.and (g_recv hX.1.1 a1 rfl) (fun U hU hW => ⟨EC.keep _ _ hW hU hX.1, by rw [hU]; exact h2⟩) ⟨Nat.zero_le _, Nat.zero_le _⟩ rfl rfl (lv_room (Nat.le_of_ble_eq_true rfl)) dX15_in_21 ?_
      obtain ⟨fs, hcell⟩ := (h3 k hkn).cell
      refine va_castE hx hb hown (hts _ q636) (g_recv hX.1.1 hcell rfl) dX15_in_24 ?_
      refine lv_aload_n hx hb dX15_in_27 rfl (lv_at hl 3 rfl) ?_
      refine rcallI (rest := [.int (sumI k fun i => gs i g)]) hx hb hts hown hml hl.1 (mX16_in D J z aK aV aF sc g G (els k) (gs k)) (cwX16_in_X15 hts ⟨Nat.le_of_ble_eq_true rfl, Nat.le_of_ble_eq_true rfl⟩) LX.keep.and (g_recv hX.1.1 hcell rfl) (fun U hU hW => ⟨LX.keep _ _ hW hU hX, by rw [hU]; exact h3 k hkn⟩) ⟨Nat.zero_le _, Nat.zero_le _⟩ rfl rfl (lv_room (Nat.le_of_ble_eq_true rfl)) dX15_in_28 ?_
      refine lv_iadd hx hb dX15_in_31 ?_
      refine lv_istore_n (lv' := [(2, .int (sumI (k + 1) fun i => gs i g)), (3, .int (nI k)), (0, .ref q), (1, .ref sc)]) hx hb dX15_in_32 rfl hl (by decide) rfl (fun ls hl => ?_)
      refine lv_iinc (v := nI (k + 1)) (k := 1) (lv' := [(3, .int (nI (k + 1))), (2, .int (sumI (k + 1) fun i => gs i g)), (0, .ref q), (1, .ref sc)]) hx hb dX15_in_33 hl rfl (nI_succ k).symm (by decide) rfl (fun ls hl => ?_)
      refine lv_goto (tgt := 4) hx hb dX15_in_36 (by decide) ?_
      exact ih (k + 1) ls (by omega) hl
  exact loop n 0 ls (Nat.zero_add n) hl
theorem mX14_holds (D : va_G) (J : Nat → ClassId) (z : Nat) (aK aV aF : Nat → Nat) (sc : Nat) (g : Nat → Int32) (G : Nat → Prop) (q : Nat) (b : Int32) : RDi yX14_holds cX14_holds 2 (some .boolean) 6 600 [.ref q, .ref sc] (fun U => LX D J z aK aV aF sc g U ∧ va_at D vwC (q, .inr (11, [.int b])) U.heap) (if b = 0 then g 8 else g 7) := by
  refine RDz.of (by decide) (Nat.le_of_ble_eq_true rfl) ?_
  intro p l e s m args below meth c Q ls hx hb hml hown hts hX hret hl
  have hl : lv_has ls 2 [(0, .ref q), (1, .ref sc)] := hl
  obtain ⟨hX, h1⟩ := hX
  refine lv_aload_n hx hb dX14_holds_0 rfl (lv_at hl 0 rfl) ?_
  refine gget hx hb hts in_X14 hown hX.1.1 h1 rfl 0 (by decide) q1493 rfl dX14_holds_1 ?_
  refine lv_if_eq (tgt := 14) hx hb dX14_holds_4 (by decide) (fun hc => ?_) (fun hc => ?_)
  · rw [if_pos hc] at hret
    refine lv_aload_n hx hb dX14_holds_14 rfl (lv_at hl 1 rfl) ?_
    refine ggetN hx hb hts in_X4 hown hX.1.1 hX.2.2.2.1 rfl 8 (by decide) (hX.1.2.2.f 49 rfl) rfl dX14_holds_15 ?_
    exact hret 18 ls hX.2.2.2.2.2 dX14_holds_18
  · rw [if_neg hc] at hret
    refine lv_aload_n hx hb dX14_holds_7 rfl (lv_at hl 1 rfl) ?_
    refine ggetN hx hb hts in_X4 hown hX.1.1 hX.2.2.2.1 rfl 7 (by decide) (hX.1.2.2.f 47 rfl) rfl dX14_holds_8 ?_
    refine lv_goto (tgt := 18) hx hb dX14_holds_11 (by decide) ?_
    exact hret 18 ls hX.2.2.2.2.1 dX14_holds_18
theorem mX18_holds (D : va_G) (J : Nat → ClassId) (z : Nat) (aK aV aF : Nat → Nat) (sc : Nat) (g : Nat → Int32) (G : Nat → Prop) (q a b : Nat) (g1 g2 : (Nat → Int32) → Int32) : RDi yX18_holds cX18_holds 2 (some .boolean) 6 600 [.ref q, .ref sc] (fun U => LX D J z aK aV aF sc g U ∧ (va_at D vwC (q, .inr (14, [.ref a, .ref b])) U.heap ∧ SumAt D J G aF a g1 U.heap ∧ SumAt D J G aF b g2 U.heap)) (if g1 g < g2 g then 1 else 0) := by
  refine RDz.of (by decide) (Nat.le_of_ble_eq_true rfl) ?_
  intro p l e s m args below meth c Q ls hx hb hml hown hts hX hret hl
  have hl : lv_has ls 2 [(0, .ref q), (1, .ref sc)] := hl
  obtain ⟨hX, h1, h2, h3⟩ := hX
  obtain ⟨-, la, na, ea, ga, c2, -⟩ := id h2
  obtain ⟨-, lb, nb, eb, gb, c3, -⟩ := id h3
  refine lv_aload_n hx hb dX18_holds_0 rfl (lv_at hl 0 rfl) ?_
  refine gget hx hb hts in_X18 hown hX.1.1 h1 rfl 0 (by decide) q1617 rfl dX18_holds_1 ?_
  refine lv_aload_n hx hb dX18_holds_4 rfl (lv_at hl 1 rfl) ?_
  refine rcallI (rest := []) hx hb hts hown hml hl.1 (mX15_in D J z aK aV aF sc g G a g1) (cwX15_in_X18 hts ⟨Nat.le_of_ble_eq_true rfl, Nat.le_of_ble_eq_true rfl⟩) LX.keep.and (g_recv hX.1.1 c2 rfl) (fun U hU hW => ⟨LX.keep _ _ hW hU hX, by rw [hU]; exact h2⟩) ⟨Nat.zero_le _, Nat.zero_le _⟩ rfl rfl (lv_room (Nat.le_of_ble_eq_true rfl)) dX18_holds_5 ?_
  refine lv_aload_n hx hb dX18_holds_8 rfl (lv_at hl 0 rfl) ?_
  refine gget hx hb hts in_X18 hown hX.1.1 h1 rfl 1 (by decide) q1618 rfl dX18_holds_9 ?_
  refine lv_aload_n hx hb dX18_holds_12 rfl (lv_at hl 1 rfl) ?_
  refine rcallI (rest := [.int (g1 g)]) hx hb hts hown hml hl.1 (mX15_in D J z aK aV aF sc g G b g2) (cwX15_in_X18 hts ⟨Nat.le_of_ble_eq_true rfl, Nat.le_of_ble_eq_true rfl⟩) LX.keep.and (g_recv hX.1.1 c3 rfl) (fun U hU hW => ⟨LX.keep _ _ hW hU hX, by rw [hU]; exact h3⟩) ⟨Nat.zero_le _, Nat.zero_le _⟩ rfl rfl (lv_room (Nat.le_of_ble_eq_true rfl)) dX18_holds_13 ?_
  refine lv_icmp_ge (tgt := 23) hx hb dX18_holds_16 (by decide) (fun hc => ?_) (fun hc => ?_)
  · rw [if_neg (Int32.not_lt.mpr hc)] at hret
    refine lv_iconst (v := (0 : Int32)) hx hb dX18_holds_23 (by decide) ?_
    exact hret 24 ls (Or.inl rfl) dX18_holds_24
  · rw [if_pos (Int32.not_le.mp hc)] at hret
    refine lv_iconst (v := (1 : Int32)) hx hb dX18_holds_19 (by decide) ?_
    refine lv_goto (tgt := 24) hx hb dX18_holds_20 (by decide) ?_
    exact hret 24 ls (Or.inr rfl) dX18_holds_24
def FR (d : Nat) : Nat := 7 + d
def LO (d : Nat) : Nat := 600 + 60 * d
/-- Not and Row, d deep -/
def PD (D : va_G) (J : Nat → ClassId) (z : Nat) (aK aV aF : Nat → Nat) (sc : Nat) (g : Nat → Int32) (G : Nat → Prop) (d : Nat) : Prop :=
  (∀ (q a : Nat) (f1 : (Nat → Int32) → Int32), RDi yX13_holds cX13_holds 2 (some .boolean) (FR d) (LO d) [.ref q, .ref sc] (fun U => LX D J z aK aV aF sc g U ∧ (va_at D vwC (q, .inr (10, [.ref a])) U.heap ∧ CondAt D J G aF d a f1 U.heap)) (if f1 g = 0 then 1 else 0)) ∧
  ∀ (q : Nat) (all : Int32) (lst n : Nat) (els : Nat → Nat) (gs : Nat → (Nat → Int32) → Int32), (all = 0 ∨ all = 1) → RDi yX12_holds cX12_holds 3 (some .boolean) (FR d) (LO d) [.ref q, .ref sc] (fun U => LX D J z aK aV aF sc g U ∧ (va_at D vwC (q, .inr (9, [.int all, .ref lst])) U.heap ∧ ListAt D J G lst n els U.heap ∧ ∀ i, i < n → CondAt D J G aF d (els i) (gs i) U.heap)) (rowV all n fun i => gs i g)
theorem ciX12 {R : Room} {s : State} {args : Array Value} {fr lo : Nat} {own : String} {index : Nat} (hts : ∀ w ∈ lw_all, w.before args s = true) (hlk : Cond.methodLink own index yCond ∈ lw_all) (hF : va_Fw RX12 yCond yX12_holds s) (hR : fr + 1 ≤ R.frames ∧ 8 + (3 + 11) + lo ≤ R.locals) : va_CI R s args own RX12 index yCond yX12_holds cX12_holds 3 (some .boolean) (ws_ yX12_holds cX12_holds 3 (some .boolean)) ({ frames := fr, cells := 0, slots := 0, locals := lo }) 0 0 1 :=
  va_cwF 1 hts (by
    unfold va_wsF
    refine lw_app ?_ (lw_meth q664)
    intro w hw
    simp only [List.mem_cons, List.not_mem_nil, or_false] at hw
    rcases hw with rfl | rfl | rfl | rfl
    · exact hlk
    · exact q660
    · exact q662
    · exact q165) rfl rfl rfl hF (by decide +kernel) hR
theorem ciX13 {R : Room} {s : State} {args : Array Value} {fr lo : Nat} {own : String} {index : Nat} (hts : ∀ w ∈ lw_all, w.before args s = true) (hlk : Cond.methodLink own index yCond ∈ lw_all) (hF : va_Fw RX13 yCond yX13_holds s) (hR : fr + 1 ≤ R.frames ∧ 8 + (2 + 11) + lo ≤ R.locals) : va_CI R s args own RX13 index yCond yX13_holds cX13_holds 2 (some .boolean) (ws_ yX13_holds cX13_holds 2 (some .boolean)) ({ frames := fr, cells := 0, slots := 0, locals := lo }) 0 0 1 :=
  va_cwF 1 hts (by
    unfold va_wsF
    refine lw_app ?_ (lw_meth q656)
    intro w hw
    simp only [List.mem_cons, List.not_mem_nil, or_false] at hw
    rcases hw with rfl | rfl | rfl | rfl
    · exact hlk
    · exact q652
    · exact q654
    · exact q166) rfl rfl rfl hF (by decide +kernel) hR
theorem ciX14 {R : Room} {s : State} {args : Array Value} {fr lo : Nat} {own : String} {index : Nat} (hts : ∀ w ∈ lw_all, w.before args s = true) (hlk : Cond.methodLink own index yCond ∈ lw_all) (hF : va_Fw RX14 yCond yX14_holds s) (hR : fr + 1 ≤ R.frames ∧ 8 + (2 + 11) + lo ≤ R.locals) : va_CI R s args own RX14 index yCond yX14_holds cX14_holds 2 (some .boolean) (ws_ yX14_holds cX14_holds 2 (some .boolean)) ({ frames := fr, cells := 0, slots := 0, locals := lo }) 0 0 1 :=
  va_cwF 1 hts (by
    unfold va_wsF
    refine lw_app ?_ (lw_meth q675)
    intro w hw
    simp only [List.mem_cons, List.not_mem_nil, or_false] at hw
    rcases hw with rfl | rfl | rfl | rfl
    · exact hlk
    · exact q671
    · exact q673
    · exact q167) rfl rfl rfl hF (by decide +kernel) hR
theorem ciX18 {R : Room} {s : State} {args : Array Value} {fr lo : Nat} {own : String} {index : Nat} (hts : ∀ w ∈ lw_all, w.before args s = true) (hlk : Cond.methodLink own index yCond ∈ lw_all) (hF : va_Fw RX18 yCond yX18_holds s) (hR : fr + 1 ≤ R.frames ∧ 8 + (2 + 11) + lo ≤ R.locals) : va_CI R s args own RX18 index yCond yX18_holds cX18_holds 2 (some .boolean) (ws_ yX18_holds cX18_holds 2 (some .boolean)) ({ frames := fr, cells := 0, slots := 0, locals := lo }) 0 0 1 :=
  va_cwF 1 hts (by
    unfold va_wsF
    refine lw_app ?_ (lw_meth q629)
    intro w hw
    simp only [List.mem_cons, List.not_mem_nil, or_false] at hw
    rcases hw with rfl | rfl | rfl | rfl
    · exact hlk
    · exact q625
    · exact q627
    · exact q171) rfl rfl rfl hF (by decide +kernel) hR
/-- a condition asked through the interface -/
theorem condcall {p : Program} {l : Launch} {e : Env} {R : Room} {s : State} {m : MethodId} {args : Array Value} {below : List Frame} {meth : Method} {c : Code} {locs : List Loc} {cells slots : Nat} {Q : State → Prop} {cc : ByteArray} {pc : Nat} {ls : Array Slot} {rest : List Value} (D : va_G) (J : Nat → ClassId) (z : Nat) (aK aV aF : Nat → Nat) (sc : Nat) (g : Nat → Int32) (G : Nat → Prop) (d : Nat) (hP : ∀ d', d = d' + 1 → PD D J z aK aV aF sc g G d') (hx : p.tables.exec = Jvm.exec) (hb : c.code = cc) (hts : ∀ w ∈ lw_all, w.before args s = true) {own : String} {index count : Nat} (hown : s.vm.findClass own = some m.cls) {nL : Nat} (hml : c.maxLocals = nL) (hlsz : ls.size = nL) (hlk : Cond.methodLink own index yCond ∈ lw_all) (hX : LX D J z aK aV aF sc g s) {q : Nat} {f : (Nat → Int32) → Int32} (hc : CondAt D J G aF d q f s.heap) (hR : 6 + d + 1 ≤ R.frames ∧ 562 + 60 * d ≤ R.locals)
    (hf : cells ≤ R.cells ∧ slots ≤ R.slots) (hW : 2 * (F0 m pc ls (.ref sc :: .ref q :: rest)).monitorRoom + (rest.map fun v => v.category).sum ≤ 8) (hdg : decode cc pc = .ok (.invokeinterface index count, 5)) (kk : W p l e R s m args below meth c s.heap locs cells slots Q (F0 m (pc + 5) ls (.int (f g) :: rest))) : W p l e R s m args below meth c s.heap locs cells slots Q (F0 m pc ls (.ref sc :: .ref q :: rest)) := by
  cases d with
  | zero => exact hc.elim
  | succ d =>
    have hPd := hP d rfl
    have r1 : FR d + 1 ≤ R.frames := by unfold FR; omega
    have r2 : 8 + (2 + 11) + LO d ≤ R.locals := by unfold LO; omega
    have r3 : 8 + (3 + 11) + LO d ≤ R.locals := by unfold LO; omega
    obtain ⟨-, h⟩ := hc
    rcases h with ⟨b, -, h2, rfl⟩ | ⟨a, g1, h1, h2, rfl⟩ | ⟨a, b, g1, g2, h1, h2, h3, rfl⟩ | ⟨all, lst, n, els, gs, h1, h2, h3, h4, rfl⟩
    · exact rcallF (rest := rest) hx hb hts (hX.1.1.1 11 _ rfl).2 hown hml hlsz (mX14_holds D J z aK aV aF sc g G q b) (ciX14 hts hlk (hX.2.2.1 2 (RX14, yX14_holds) rfl) ⟨by omega, by omega⟩) LX.keep.and (g_recv hX.1.1 h2 rfl) (fun U hU hW => ⟨LX.keep _ _ hW hU hX, by rw [hU]; exact h2⟩) hf rfl rfl hW hdg kk
    · exact rcallF (rest := rest) hx hb hts (hX.1.1.1 10 _ rfl).2 hown hml hlsz (hPd.1 q a g1) (ciX13 hts hlk (hX.2.2.1 1 (RX13, yX13_holds) rfl) ⟨r1, r2⟩) (LX.keep.and (B := fun H => va_at D vwC (q, .inr (10, [.ref a])) H ∧ CondAt D J G aF d a g1 H)) (g_recv hX.1.1 h1 rfl) (fun U hU hW => ⟨LX.keep _ _ hW hU hX, by rw [hU]; exact ⟨h1, h2⟩⟩) hf rfl rfl hW hdg kk
    · exact rcallF (rest := rest) hx hb hts (hX.1.1.1 14 _ rfl).2 hown hml hlsz (mX18_holds D J z aK aV aF sc g G q a b g1 g2) (ciX18 hts hlk (hX.2.2.1 3 (RX18, yX18_holds) rfl) ⟨by omega, by omega⟩) (LX.keep.and (B := fun H => va_at D vwC (q, .inr (14, [.ref a, .ref b])) H ∧ SumAt D J G aF a g1 H ∧ SumAt D J G aF b g2 H)) (g_recv hX.1.1 h1 rfl) (fun U hU hW => ⟨LX.keep _ _ hW hU hX, by rw [hU]; exact ⟨h1, h2, h3⟩⟩) hf rfl rfl hW hdg kk
    · exact rcallF (rest := rest) hx hb hts (hX.1.1.1 9 _ rfl).2 hown hml hlsz (hPd.2 q all lst n els gs h1) (ciX12 hts hlk (hX.2.2.1 0 (RX12, yX12_holds) rfl) ⟨r1, r3⟩) (LX.keep.and (B := fun H => va_at D vwC (q, .inr (9, [.int all, .ref lst])) H ∧ ListAt D J G lst n els H ∧ ∀ i, i < n → CondAt D J G aF d (els i) (gs i) H)) (g_recv hX.1.1 h2 rfl) (fun U hU hW => ⟨LX.keep _ _ hW hU hX, by rw [hU]; exact ⟨h2, h3, h4⟩⟩) hf rfl rfl hW hdg kk
set_option maxHeartbeats 1000000 in
theorem mCondS (D : va_G) (J : Nat → ClassId) (z : Nat) (aK aV aF : Nat → Nat) (sc : Nat) (g : Nat → Int32) (G : Nat → Prop) (d : Nat) (hP : ∀ d', d = d' + 1 → PD D J z aK aV aF sc g G d') : PD D J z aK aV aF sc g G d := by
  refine ⟨fun q a f1 => ?_, fun q all lst n els gs h01 => ?_⟩
  · refine RDz.of (by decide) (Nat.le_of_ble_eq_true rfl) ?_
    intro p l e s m args below meth c Q ls hx hb hml hown hts hX hret hl
    have hl : lv_has ls 2 [(0, .ref q), (1, .ref sc)] := hl
    obtain ⟨hX, h1, h2⟩ := hX
    refine lv_aload_n hx hb dX13_holds_0 rfl (lv_at hl 0 rfl) ?_
    refine gget hx hb hts in_X13 hown hX.1.1 h1 rfl 0 (by decide) q1482 rfl dX13_holds_1 ?_
    refine lv_aload_n hx hb dX13_holds_4 rfl (lv_at hl 1 rfl) ?_
    refine condcall (rest := []) D J z aK aV aF sc g G d hP hx hb hts hown hml hl.1 q658 hX h2 ⟨by show 6 + d + 1 ≤ FR d; unfold FR; omega, by show 562 + 60 * d ≤ LO d; unfold LO; omega⟩ ⟨Nat.zero_le _, Nat.zero_le _⟩ (lv_room (Nat.le_of_ble_eq_true rfl)) dX13_holds_5 ?_
    refine lv_if_ne (tgt := 17) hx hb dX13_holds_10 (by decide) (fun hc => ?_) (fun hc => ?_)
    · rw [if_neg hc] at hret
      refine lv_iconst (v := (0 : Int32)) hx hb dX13_holds_17 (by decide) ?_
      exact hret 18 ls (Or.inl rfl) dX13_holds_18
    · rw [if_pos hc] at hret
      refine lv_iconst (v := (1 : Int32)) hx hb dX13_holds_13 (by decide) ?_
      refine lv_goto (tgt := 18) hx hb dX13_holds_14 (by decide) ?_
      exact hret 18 ls (Or.inr rfl) dX13_holds_18
  · refine RDz.of (by decide) (Nat.le_of_ble_eq_true rfl) ?_
    intro p l e s m args below meth c Q ls hx hb hml hown hts hX hret hl
    have hl : lv_has ls 3 [(0, .ref q), (1, .ref sc)] := hl
    obtain ⟨hX, h1, h2, h3⟩ := hX
    obtain ⟨-, mc, arr, cap, fa, -, a1, a2, a3, a4, a5⟩ := id h2
    have hn : n < 2 ^ 31 := Nat.lt_of_le_of_lt a3 a4
    refine lv_iconst (v := (0 : Int32)) hx hb dX12_holds_0 (by decide) ?_
    refine lv_istore_n (lv' := [(2, .int (0 : Int32)), (0, .ref q), (1, .ref sc)]) hx hb dX12_holds_1 rfl hl (by decide) rfl (fun ls hl => ?_)
    have loop : ∀ (dd k : Nat) (ls : Array Slot), k + dd = n → (∀ i, i < k → gs i g = all) → lv_has ls 3 [(2, .int (nI k)), (0, .ref q), (1, .ref sc)] → W p l e ({ frames := FR d, cells := 0, slots := 0, locals := LO d } : Room) s m args below meth c s.heap [] 0 0 Q (F0 m 2 ls []) := by
      intro dd
      induction dd with
      | zero =>
        intro k ls hk hall hl
        have hk : k = n := hk
        subst hk
        refine lv_iload_n hx hb dX12_holds_2 rfl (lv_at hl 0 rfl) ?_
        refine lv_aload_n hx hb dX12_holds_3 rfl (lv_at hl 1 rfl) ?_
        refine gget hx hb hts in_X12 hown hX.1.1 h1 rfl 1 (by decide) q1452 rfl dX12_holds_4 ?_
        refine rcallI (rest := [.int (nI k)]) hx hb hts hown hml hl.1 (mJ3_size D J z aK aV lst (.int mc) (.ref arr) (nI k)) (cwJ3_size_X12 hts ⟨by show 1 + 1 ≤ FR d; unfold FR; omega, by show 8 + (1 + 11) + 40 ≤ LO d; unfold LO; omega⟩) EC.keep.and (g_recv hX.1.1 a1 rfl) (fun U hU hW => ⟨EC.keep _ _ hW hU hX.1, by rw [hU]; exact a1⟩) ⟨Nat.zero_le _, Nat.zero_le _⟩ rfl rfl (lv_room (Nat.le_of_ble_eq_true rfl)) dX12_holds_7 ?_
        refine lv_icmp_ge (tgt := 56) hx hb dX12_holds_10 (by decide) (fun _ => ?_) (fun hc => absurd (nI_le (Nat.le_refl k) hn) hc)
        refine lv_aload_n hx hb dX12_holds_56 rfl (lv_at hl 1 rfl) ?_
        refine gget hx hb hts in_X12 hown hX.1.1 h1 rfl 0 (by decide) q1451 rfl dX12_holds_57 ?_
        have e1 : rowV all k (fun i => gs i g) = all := if_pos hall
        rw [e1] at hret
        exact hret 60 ls h01 dX12_holds_60
      | succ dd ih =>
        intro k ls hk hall hl
        have hkn : k < n := by omega
        refine lv_iload_n hx hb dX12_holds_2 rfl (lv_at hl 0 rfl) ?_
        refine lv_aload_n hx hb dX12_holds_3 rfl (lv_at hl 1 rfl) ?_
        refine gget hx hb hts in_X12 hown hX.1.1 h1 rfl 1 (by decide) q1452 rfl dX12_holds_4 ?_
        refine rcallI (rest := [.int (nI k)]) hx hb hts hown hml hl.1 (mJ3_size D J z aK aV lst (.int mc) (.ref arr) (nI n)) (cwJ3_size_X12 hts ⟨by show 1 + 1 ≤ FR d; unfold FR; omega, by show 8 + (1 + 11) + 40 ≤ LO d; unfold LO; omega⟩) EC.keep.and (g_recv hX.1.1 a1 rfl) (fun U hU hW => ⟨EC.keep _ _ hW hU hX.1, by rw [hU]; exact a1⟩) ⟨Nat.zero_le _, Nat.zero_le _⟩ rfl rfl (lv_room (Nat.le_of_ble_eq_true rfl)) dX12_holds_7 ?_
        refine lv_icmp_ge (tgt := 56) hx hb dX12_holds_10 (by decide) (fun hc => absurd hc (nI_ge hkn hn)) (fun _ => ?_)
        refine lv_aload_n hx hb dX12_holds_13 rfl (lv_at hl 1 rfl) ?_
        refine gget hx hb hts in_X12 hown hX.1.1 h1 rfl 1 (by decide) q1452 rfl dX12_holds_14 ?_
        refine lv_iload_n hx hb dX12_holds_17 rfl (lv_at hl 0 rfl) ?_
        refine rcallR (rest := []) hx hb hts hown hml hl.1 (mJ3_get D J z aK aV G lst n els k hkn) (cwJ3_get_X12 hts ⟨by show 3 + 1 ≤ FR d; unfold FR; omega, by show 8 + (2 + 11) + 200 ≤ LO d; unfold LO; omega⟩) EC.keep.and (g_recv hX.1.1 a1 rfl) (fun U hU hW => ⟨EC.keep _ _ hW hU hX.1, by rw [hU]; exact h2⟩) ⟨Nat.zero_le _, Nat.zero_le _⟩ rfl rfl (lv_room (Nat.le_of_ble_eq_true rfl)) dX12_holds_18 ?_
        obtain ⟨i, ci, C, T, N, fs, c1, c2, c3⟩ := (h3 k hkn).cell
        refine va_castY hx hb hown (hts _ q667) (C := C.1) (nm := "LateInks$Cond") (hX.2.2.1 i C c1).2.2.2.2 (g_recv hX.1.1 c3 c2) dX12_holds_21 ?_
        refine lv_aload_n hx hb dX12_holds_24 rfl (lv_at hl 2 rfl) ?_
        refine condcall (rest := []) D J z aK aV aF sc g G d hP hx hb hts hown hml hl.1 q669 hX (h3 k hkn) ⟨by show 6 + d + 1 ≤ FR d; unfold FR; omega, by show 562 + 60 * d ≤ LO d; unfold LO; omega⟩ ⟨Nat.zero_le _, Nat.zero_le _⟩ (lv_room (Nat.le_of_ble_eq_true rfl)) dX12_holds_25 ?_
        refine lv_aload_n hx hb dX12_holds_30 rfl (lv_at hl 1 rfl) ?_
        refine gget hx hb hts in_X12 hown hX.1.1 h1 rfl 0 (by decide) q1451 rfl dX12_holds_31 ?_
        refine lv_icmp_eq (tgt := 50) hx hb dX12_holds_34 (by decide) (fun hc => ?_) (fun hc => ?_)
        · refine lv_iinc (v := nI (k + 1)) (k := 0) (lv' := [(2, .int (nI (k + 1))), (0, .ref q), (1, .ref sc)]) hx hb dX12_holds_50 hl rfl (nI_succ k).symm (by decide) rfl (fun ls hl => ?_)
          refine lv_goto (tgt := 2) hx hb dX12_holds_53 (by decide) ?_
          refine ih (k + 1) ls (by omega) (fun i hi => ?_) hl
          rcases Nat.lt_or_ge i k with h | h
          · exact hall i h
          · have e : i = k := by omega
            rw [e]; exact hc
        · have e1 : rowV all n (fun i => gs i g) = if all = 0 then 1 else 0 := if_neg (fun h => hc (h k hkn))
          rw [e1] at hret
          refine lv_aload_n hx hb dX12_holds_37 rfl (lv_at hl 1 rfl) ?_
          refine gget hx hb hts in_X12 hown hX.1.1 h1 rfl 0 (by decide) q1451 rfl dX12_holds_38 ?_
          refine lv_if_ne (tgt := 48) hx hb dX12_holds_41 (by decide) (fun hc => ?_) (fun hc => ?_)
          · rw [if_neg hc] at hret
            refine lv_iconst (v := (0 : Int32)) hx hb dX12_holds_48 (by decide) ?_
            exact hret 49 ls (Or.inl rfl) dX12_holds_49
          · rw [if_pos hc] at hret
            refine lv_iconst (v := (1 : Int32)) hx hb dX12_holds_44 (by decide) ?_
            refine lv_goto (tgt := 49) hx hb dX12_holds_45 (by decide) ?_
            exact hret 49 ls (Or.inr rfl) dX12_holds_49
    exact loop n 0 ls (Nat.zero_add n) (fun i hi => absurd hi (Nat.not_lt_zero i)) hl
set_option maxHeartbeats 1000000 in
theorem mCond (D : va_G) (J : Nat → ClassId) (z : Nat) (aK aV aF : Nat → Nat) (sc : Nat) (g : Nat → Int32) (G : Nat → Prop) : ∀ d : Nat, PD D J z aK aV aF sc g G d := by
  intro d
  induction d with
  | zero => exact mCondS D J z aK aV aF sc g G 0 (fun d' h => by omega)
  | succ d ih => exact mCondS D J z aK aV aF sc g G (d + 1) (fun d' h => by cases h; exact ih)
theorem mX11_holds (D : va_G) (J : Nat → ClassId) (z : Nat) (aK aV aF : Nat → Nat) (sc : Nat) (g : Nat → Int32) (G : Nat → Prop) (q kd : Nat) (n : Int32) (w : (Nat → Int32) → Int32) : RDi yX11_holds cX11_holds 2 (some .boolean) 30 2000 [.ref q, .ref sc] (fun U => LX D J z aK aV aF sc g U ∧ LineAt D J G aF q kd n w U.heap) (if w g = 0 then 0 else 1) := by
  refine RDz.of (by decide) (Nat.le_of_ble_eq_true rfl) ?_
  intro p l e s m args below meth c Q ls hx hb hml hown hts hX hret hl
  have hl : lv_has ls 2 [(0, .ref q), (1, .ref sc)] := hl
  obtain ⟨hX, -, hkd, ⟨h1, rfl⟩ | ⟨c1, d, hd, h1, h2⟩⟩ := hX
  · refine lv_aload_n hx hb dX11_holds_0 rfl (lv_at hl 0 rfl) ?_
    refine gget hx hb hts in_X11 hown hX.1.1 h1 rfl 2 (by decide) q1634 rfl dX11_holds_1 ?_
    refine lv_ifnullN (tgt := 20) hx hb dX11_holds_4 (by decide) ?_
    refine lv_iconst (v := (1 : Int32)) hx hb dX11_holds_20 (by decide) ?_
    refine lv_goto (tgt := 25) hx hb dX11_holds_21 (by decide) ?_
    exact hret 25 ls (Or.inr rfl) dX11_holds_25
  · refine lv_aload_n hx hb dX11_holds_0 rfl (lv_at hl 0 rfl) ?_
    refine gget hx hb hts in_X11 hown hX.1.1 h1 rfl 2 (by decide) q1634 rfl dX11_holds_1 ?_
    refine lv_ifnull hx hb dX11_holds_4 ?_
    refine lv_aload_n hx hb dX11_holds_7 rfl (lv_at hl 0 rfl) ?_
    refine gget hx hb hts in_X11 hown hX.1.1 h1 rfl 2 (by decide) q1634 rfl dX11_holds_8 ?_
    refine lv_aload_n hx hb dX11_holds_11 rfl (lv_at hl 1 rfl) ?_
    refine condcall (rest := []) D J z aK aV aF sc g G d (fun d' _ => mCond D J z aK aV aF sc g G d') hx hb hts hown hml hl.1 q621 hX h2 ⟨by show 6 + d + 1 ≤ 30; omega, by show 562 + 60 * d ≤ 2000; omega⟩ ⟨Nat.zero_le _, Nat.zero_le _⟩ (lv_room (Nat.le_of_ble_eq_true rfl)) dX11_holds_12 ?_
    refine lv_if_eq (tgt := 24) hx hb dX11_holds_17 (by decide) (fun hc => ?_) (fun hc => ?_)
    · rw [if_pos hc] at hret
      refine lv_iconst (v := (0 : Int32)) hx hb dX11_holds_24 (by decide) ?_
      exact hret 25 ls (Or.inl rfl) dX11_holds_25
    · rw [if_neg hc] at hret
      refine lv_iconst (v := (1 : Int32)) hx hb dX11_holds_20 (by decide) ?_
      refine lv_goto (tgt := 25) hx hb dX11_holds_21 (by decide) ?_
      exact hret 25 ls (Or.inr rfl) dX11_holds_25
set_option maxHeartbeats 1000000 in
theorem mX9_sumOf (D : va_G) (J : Nat → ClassId) (z : Nat) (aK aV aF : Nat → Nat) (sc : Nat) (g : Nat → Int32) (G : Nat → Prop) (q k0 : Nat) (hk0 : k0 < 3) (f : Nat → (Nat → Int32) → Int32) (mm : Int32) : RDi yX9_sumOf cX9_sumOf 6 (some .int) 31 2100 [.ref q, .ref (aF (7 + k0)), .ref sc] (fun U => LX D J z aK aV aF sc g U ∧ LawAt D J G aF q f mm U.heap) (f k0 g) := by
  refine RDi.of (by decide) (Nat.le_of_ble_eq_true rfl) ?_
  intro p l e s m args below meth c Q ls hx hb hml hown hts hX hret hl
  have hl : lv_has ls 6 [(0, .ref q), (1, .ref (aF (7 + k0))), (2, .ref sc)] := hl
  obtain ⟨hX, hG, lst, n, els, kd, nn, ww, h1, hGl, h0, h2, h3, h12, -, rfl⟩ := hX
  have hn : n < 2 ^ 31 := Nat.lt_of_le_of_lt h12 (by decide)
  have hsz : ∃ v w : Value, va_at D vwC (lst, .inr (6, [v, w, .int (nI n)])) s.heap := by
    rcases Nat.eq_zero_or_pos n with e | e
    · obtain ⟨v, w, h⟩ := h0 e
      subst e
      exact ⟨v, w, h⟩
    · obtain ⟨-, mc, arr, cap, fa, -, a1, -⟩ := h2 e
      exact ⟨_, _, a1⟩
  obtain ⟨v, w, hsz⟩ := hsz
  refine lv_iconst (v := (0 : Int32)) hx hb dX9_sumOf_0 (by decide) ?_
  refine lv_istore_n (lv' := [(3, .int (0 : Int32)), (0, .ref q), (1, .ref (aF (7 + k0))), (2, .ref sc)]) hx hb dX9_sumOf_1 rfl hl (by decide) rfl (fun ls hl => ?_)
  refine lv_iconst (v := (0 : Int32)) hx hb dX9_sumOf_2 (by decide) ?_
  refine lv_istore (lv' := [(4, .int (0 : Int32)), (3, .int (0 : Int32)), (0, .ref q), (1, .ref (aF (7 + k0))), (2, .ref sc)]) hx hb dX9_sumOf_3 hl (by decide) rfl (fun ls hl => ?_)
  have loop : ∀ (d k : Nat) (ls : Array Slot), k + d = n → lv_has ls 6 [(4, .int (nI k)), (3, .int (sumI k fun i => if kd i = k0 ∧ ¬ ww i g = 0 then nn i else 0)), (0, .ref q), (1, .ref (aF (7 + k0))), (2, .ref sc)] → W p l e ({ frames := 31, cells := 0, slots := 0, locals := 2100 } : Room) s m args below meth c s.heap [] 0 0 Q (F0 m 5 ls []) := by
    intro d
    induction d with
    | zero =>
      intro k ls hk hl
      have hk : k = n := hk
      subst hk
      refine lv_iload hx hb dX9_sumOf_5 (lv_at hl 0 rfl) ?_
      refine lv_aload_n hx hb dX9_sumOf_7 rfl (lv_at hl 2 rfl) ?_
      refine gget hx hb hts in_X9 hown hX.1.1 h1 rfl 0 (by decide) q1412 rfl dX9_sumOf_8 ?_
      refine rcallI (rest := [.int (nI k)]) hx hb hts hown hml hl.1 (mJ3_size D J z aK aV lst v w (nI k)) (cwJ3_size_X9 hts ⟨Nat.le_of_ble_eq_true rfl, Nat.le_of_ble_eq_true rfl⟩) EC.keep.and (g_recv hX.1.1 hsz rfl) (fun U hU hW => ⟨EC.keep _ _ hW hU hX.1, by rw [hU]; exact hsz⟩) ⟨Nat.zero_le _, Nat.zero_le _⟩ rfl rfl (lv_room (Nat.le_of_ble_eq_true rfl)) dX9_sumOf_11 ?_
      refine lv_icmp_ge (tgt := 63) hx hb dX9_sumOf_14 (by decide) (fun _ => ?_) (fun hc => absurd (nI_le (Nat.le_refl k) hn) hc)
      refine lv_iload_n hx hb dX9_sumOf_63 rfl (lv_at hl 1 rfl) ?_
      exact hret 64 ls dX9_sumOf_64
    | succ d ih =>
      intro k ls hk hl
      have hkn : k < n := by omega
      have step : ∀ (x : Int32) (ls : Array Slot) (v5 : List (Nat × Value)), (if kd k = k0 ∧ ¬ ww k g = 0 then nn k else 0) = x → lv_has ls 6 [(4, .int (nI k)), (3, .int (sumI k (fun i => if kd i = k0 ∧ ¬ ww i g = 0 then nn i else 0) + x)), (0, .ref q), (1, .ref (aF (7 + k0))), (2, .ref sc)] → W p l e ({ frames := 31, cells := 0, slots := 0, locals := 2100 } : Room) s m args below meth c s.heap [] 0 0 Q (F0 m 57 ls []) := by
        intro x ls _ hxx hl
        subst hxx
        refine lv_iinc (v := nI (k + 1)) (k := 0) (lv' := [(4, .int (nI (k + 1))), (3, .int (sumI (k + 1) fun i => if kd i = k0 ∧ ¬ ww i g = 0 then nn i else 0)), (0, .ref q), (1, .ref (aF (7 + k0))), (2, .ref sc)]) hx hb dX9_sumOf_57 hl rfl (nI_succ k).symm (by decide) rfl (fun ls hl => ?_)
        refine lv_goto (tgt := 5) hx hb dX9_sumOf_60 (by decide) ?_
        exact ih (k + 1) ls (by omega) hl
      have hL := h2 (by omega)
      obtain ⟨cv, hcell⟩ := (h3 k hkn).cell
      refine lv_iload hx hb dX9_sumOf_5 (lv_at hl 0 rfl) ?_
      refine lv_aload_n hx hb dX9_sumOf_7 rfl (lv_at hl 2 rfl) ?_
      refine gget hx hb hts in_X9 hown hX.1.1 h1 rfl 0 (by decide) q1412 rfl dX9_sumOf_8 ?_
      refine rcallI (rest := [.int (nI k)]) hx hb hts hown hml hl.1 (mJ3_size D J z aK aV lst v w (nI n)) (cwJ3_size_X9 hts ⟨Nat.le_of_ble_eq_true rfl, Nat.le_of_ble_eq_true rfl⟩) EC.keep.and (g_recv hX.1.1 hsz rfl) (fun U hU hW => ⟨EC.keep _ _ hW hU hX.1, by rw [hU]; exact hsz⟩) ⟨Nat.zero_le _, Nat.zero_le _⟩ rfl rfl (lv_room (Nat.le_of_ble_eq_true rfl)) dX9_sumOf_11 ?_
      refine lv_icmp_ge (tgt := 63) hx hb dX9_sumOf_14 (by decide) (fun hc => absurd hc (nI_ge hkn hn)) (fun _ => ?_)
      refine lv_aload_n hx hb dX9_sumOf_17 rfl (lv_at hl 2 rfl) ?_
      refine gget hx hb hts in_X9 hown hX.1.1 h1 rfl 0 (by decide) q1412 rfl dX9_sumOf_18 ?_
      refine lv_iload hx hb dX9_sumOf_21 (lv_at hl 0 rfl) ?_
      refine rcallR (rest := []) hx hb hts hown hml hl.1 (mJ3_get D J z aK aV G lst n els k hkn) (cwJ3_get_X9 hts ⟨Nat.le_of_ble_eq_true rfl, Nat.le_of_ble_eq_true rfl⟩) EC.keep.and (g_recv hX.1.1 hsz rfl) (fun U hU hW => ⟨EC.keep _ _ hW hU hX.1, by rw [hU]; exact hL⟩) ⟨Nat.zero_le _, Nat.zero_le _⟩ rfl rfl (lv_room (Nat.le_of_ble_eq_true rfl)) dX9_sumOf_23 ?_
      refine va_castE hx hb hown (hts _ q615) (g_recv hX.1.1 hcell rfl) dX9_sumOf_26 ?_
      refine lv_astore (lv' := [(5, .ref (els k)), (4, .int (nI k)), (3, .int (sumI k fun i => if kd i = k0 ∧ ¬ ww i g = 0 then nn i else 0)), (0, .ref q), (1, .ref (aF (7 + k0))), (2, .ref sc)]) hx hb dX9_sumOf_29 hl (by decide) rfl (fun ls hl => ?_)
      have hl0 : lv_has ls 6 [(4, .int (nI k)), (3, .int (sumI k (fun i => if kd i = k0 ∧ ¬ ww i g = 0 then nn i else 0) + 0)), (0, .ref q), (1, .ref (aF (7 + k0))), (2, .ref sc)] := by
        rw [Int32.add_zero]
        exact lv_sub hl [1, 2, 3, 4, 5] rfl
      refine lv_aload hx hb dX9_sumOf_31 (lv_at hl 0 rfl) ?_
      refine ggetN hx hb hts in_X11 hown hX.1.1 hcell rfl 0 (by decide) (hX.1.2.2.f 60 rfl) rfl dX9_sumOf_33 ?_
      refine lv_aload_n hx hb dX9_sumOf_36 rfl (lv_at hl 4 rfl) ?_
      refine lv_acmp_ne (rx := some (aF (7 + kd k))) (ry := some (aF (7 + k0))) (tgt := 57) hx hb dX9_sumOf_37 (by decide) (fun hc => ?_) (fun hc => ?_)
      · exact step 0 ls [] (if_neg (fun h => hc (by rw [h.1]))) hl0
      have hkk : kd k = k0 := hX.2.1.2.2 _ _ (h3 k hkn).2.1 hk0 (Option.some.inj hc)
      refine lv_aload hx hb dX9_sumOf_40 (lv_at hl 0 rfl) ?_
      refine lv_aload_n hx hb dX9_sumOf_42 rfl (lv_at hl 5 rfl) ?_
      refine rcallI (rest := []) hx hb hts hown hml hl.1 (mX11_holds D J z aK aV aF sc g G (els k) (kd k) (nn k) (ww k)) (cwX11_holds_X9 hts ⟨Nat.le_of_ble_eq_true rfl, Nat.le_of_ble_eq_true rfl⟩) LX.keep.and (g_recv hX.1.1 hcell rfl) (fun U hU hW => ⟨LX.keep _ _ hW hU hX, by rw [hU]; exact h3 k hkn⟩) ⟨Nat.zero_le _, Nat.zero_le _⟩ rfl rfl (lv_room (Nat.le_of_ble_eq_true rfl)) dX9_sumOf_43 ?_
      refine lv_if_eq (tgt := 57) hx hb dX9_sumOf_46 (by decide) (fun hc => ?_) (fun hc => ?_)
      · have hw : ww k g = 0 := by
          by_cases h : ww k g = 0
          · exact h
          · rw [if_neg h] at hc
            exact absurd hc (by decide)
        exact step 0 ls [] (if_neg (fun h => h.2 hw)) hl0
      · have hw : ¬ ww k g = 0 := fun h => hc (if_pos h)
        refine lv_iload_n hx hb dX9_sumOf_49 rfl (lv_at hl 2 rfl) ?_
        refine lv_aload hx hb dX9_sumOf_50 (lv_at hl 0 rfl) ?_
        refine ggetN hx hb hts in_X11 hown hX.1.1 hcell rfl 1 (by decide) (hX.1.2.2.f 61 rfl) rfl dX9_sumOf_52 ?_
        refine lv_iadd hx hb dX9_sumOf_55 ?_
        refine lv_istore_n (lv' := [(3, .int (sumI k (fun i => if kd i = k0 ∧ ¬ ww i g = 0 then nn i else 0) + nn k)), (5, .ref (els k)), (4, .int (nI k)), (0, .ref q), (1, .ref (aF (7 + k0))), (2, .ref sc)]) hx hb dX9_sumOf_56 rfl hl (by decide) rfl (fun ls hl => ?_)
        exact step (nn k) ls [] (if_pos ⟨hkk, hw⟩) (lv_sub hl [2, 0, 3, 4, 5] rfl)
  exact loop n 0 ls (Nat.zero_add n) hl
