/-! EXCEPTIONS: what a throw asks and the lists don't carry -/
def declL : List String := ["java/lang/Throwable", "java/lang/Exception", "java/lang/RuntimeException"]
def exL : List String := ["java/lang/IndexOutOfBoundsException", "java/lang/IllegalArgumentException", "java/lang/IllegalStateException", "java/util/NoSuchElementException", "java/lang/UnsupportedOperationException"]
def exN (n : Nat) : String := exL.getD n ""
def ThrE (z : Nat) (U : State) : Prop := (∀ (i : Nat) (C : String), declL[i]? = some C → va_Nw (.declares (Bundle.init0 C)) U) ∧ (∀ (i : Nat) (C : String), exL[i]? = some C → va_Nw (.castable C C) U) ∧ vx_Zq Bundle.tN "UNASSIGNED_STACK" Bundle.steD (zZ z) U U.heap ∧ vx_Zq Bundle.tN "SUPPRESSED_SENTINEL" Bundle.listD (zZ z) U U.heap
theorem ThrE.go {z : Nat} {s U : State} (h : ThrE z s) (hW : s.WarmedH U.vm) (hq : ∀ q : Nat, q < s.heap.size → ¬ z ≤ q → U.heap[q]? = s.heap[q]?) : ThrE z U :=
  ⟨fun i C hi => (h.1 i C hi).warmD hW, fun i C hi => (h.2.1 i C hi).warmC hW, vx_Zq.moved hW.alike (h.2.2.1.kept hq), vx_Zq.moved hW.alike (h.2.2.2.kept hq)⟩

theorem thrA {z : Nat} {s : State} {args : Array Value} (hts : ∀ w ∈ lw_all, w.before args s = true) (hT : ThrE z s) : ∀ w ∈ Bundle.throwableAtoms, vx_no w = true → w.before args s = true := by
  intro w hw hno
  simp only [Bundle.throwableAtoms, List.mem_cons, List.not_mem_nil, or_false] at hw
  rcases hw with rfl | rfl | rfl | rfl | rfl | rfl | rfl | rfl | rfl | rfl | rfl | rfl | rfl | rfl | rfl | rfl | rfl | rfl | rfl | rfl | rfl | rfl | rfl | rfl
  · exact hts _ q153
  · exact hts _ q1045
  · exact hts _ q1054
  · exact hts _ q1062
  · exact hts _ q1065
  · exact hts _ q1067
  · exact hts _ q1046
  · exact hts _ q1047
  · exact hts _ q183
  · exact hts _ q184
  · exact hts _ q1048
  · exact hts _ q1053
  · exact hts _ q1063
  · exact hts _ q1158
  · exact hts _ q1035
  · exact hts _ q1159
  · exact hts _ q1037
  · exact hts _ q1160
  · exact hts _ q1039
  · exact hts _ q1049
  · exact absurd hno (by decide +kernel)
  · exact hts _ q1051
  · exact absurd hno (by decide +kernel)
  · exact hts _ q1041
theorem pasRE {z : Nat} {s : State} {args : Array Value} (hts : ∀ w ∈ lw_all, w.before args s = true) (hT : ThrE z s) : ∀ w ∈ Bundle.passAtoms "java/lang/RuntimeException" "java/lang/Exception" 1 Bundle.five, vx_no w = true → w.before args s = true := by
  intro w hw hno
  simp only [Bundle.passAtoms, List.mem_cons, List.not_mem_nil, or_false] at hw
  rcases hw with rfl | rfl | rfl | rfl | rfl
  · exact hts _ q1372
  · exact hts _ q1373
  · exact hts _ q1374
  · exact hts _ q1375
  · exact va_Nw.use rfl (hT.1 1 _ rfl)
theorem pasEX {z : Nat} {s : State} {args : Array Value} (hts : ∀ w ∈ lw_all, w.before args s = true) (hT : ThrE z s) : ∀ w ∈ Bundle.passAtoms "java/lang/Exception" "java/lang/Throwable" 1 Bundle.five, vx_no w = true → w.before args s = true := by
  intro w hw hno
  simp only [Bundle.passAtoms, List.mem_cons, List.not_mem_nil, or_false] at hw
  rcases hw with rfl | rfl | rfl | rfl | rfl
  · exact hts _ q1375
  · exact hts _ q1376
  · exact hts _ q1377
  · exact hts _ q1046
  · exact va_Nw.use rfl (hT.1 0 _ rfl)
theorem pas0 {z : Nat} {s : State} {args : Array Value} (hts : ∀ w ∈ lw_all, w.before args s = true) (hT : ThrE z s) : ∀ w ∈ Bundle.passAtoms "java/lang/IndexOutOfBoundsException" "java/lang/RuntimeException" 1 Bundle.five, vx_no w = true → w.before args s = true := by
  intro w hw hno
  simp only [Bundle.passAtoms, List.mem_cons, List.not_mem_nil, or_false] at hw
  rcases hw with rfl | rfl | rfl | rfl | rfl
  · exact hts _ q1687
  · exact hts _ q1688
  · exact hts _ q1689
  · exact hts _ q1372
  · exact va_Nw.use rfl (hT.1 2 _ rfl)
theorem pas1 {z : Nat} {s : State} {args : Array Value} (hts : ∀ w ∈ lw_all, w.before args s = true) (hT : ThrE z s) : ∀ w ∈ Bundle.passAtoms "java/lang/IllegalArgumentException" "java/lang/RuntimeException" 1 Bundle.five, vx_no w = true → w.before args s = true := by
  intro w hw hno
  simp only [Bundle.passAtoms, List.mem_cons, List.not_mem_nil, or_false] at hw
  rcases hw with rfl | rfl | rfl | rfl | rfl
  · exact hts _ q1369
  · exact hts _ q1370
  · exact hts _ q1371
  · exact hts _ q1372
  · exact va_Nw.use rfl (hT.1 2 _ rfl)
theorem pas2 {z : Nat} {s : State} {args : Array Value} (hts : ∀ w ∈ lw_all, w.before args s = true) (hT : ThrE z s) : ∀ w ∈ Bundle.passAtoms "java/lang/IllegalStateException" "java/lang/RuntimeException" 1 Bundle.five, vx_no w = true → w.before args s = true := by
  intro w hw hno
  simp only [Bundle.passAtoms, List.mem_cons, List.not_mem_nil, or_false] at hw
  rcases hw with rfl | rfl | rfl | rfl | rfl
  · exact hts _ q1814
  · exact hts _ q1815
  · exact hts _ q1816
  · exact hts _ q1372
  · exact va_Nw.use rfl (hT.1 2 _ rfl)
theorem pas3 {z : Nat} {s : State} {args : Array Value} (hts : ∀ w ∈ lw_all, w.before args s = true) (hT : ThrE z s) : ∀ w ∈ Bundle.passAtoms "java/util/NoSuchElementException" "java/lang/RuntimeException" 1 Bundle.five, vx_no w = true → w.before args s = true := by
  intro w hw hno
  simp only [Bundle.passAtoms, List.mem_cons, List.not_mem_nil, or_false] at hw
  rcases hw with rfl | rfl | rfl | rfl | rfl
  · exact hts _ q1705
  · exact hts _ q1706
  · exact hts _ q1707
  · exact hts _ q1372
  · exact va_Nw.use rfl (hT.1 2 _ rfl)
theorem pas4 {z : Nat} {s : State} {args : Array Value} (hts : ∀ w ∈ lw_all, w.before args s = true) (hT : ThrE z s) : ∀ w ∈ Bundle.passAtoms "java/lang/UnsupportedOperationException" "java/lang/RuntimeException" 1 Bundle.five, vx_no w = true → w.before args s = true := by
  intro w hw hno
  simp only [Bundle.passAtoms, List.mem_cons, List.not_mem_nil, or_false] at hw
  rcases hw with rfl | rfl | rfl | rfl | rfl
  · exact hts _ q1388
  · exact hts _ q1389
  · exact hts _ q1390
  · exact hts _ q1372
  · exact va_Nw.use rfl (hT.1 2 _ rfl)
/-- a static method that may throw: out says which -/
def SXn (y : MethodName) (cd : ByteArray) (nL fr lo : Nat) (As : List Value) (out : Option Nat) : Prop :=
  ∀ (l : Launch) (z : Nat), l.stackTraces = false → vx_Met l y (ws_ y cd nL none) ({ frames := fr, cells := 1, slots := 6, locals := lo }) (va_Pc As (ThrE z)) (va_Qv (fun (_ : Unit) => out = none) (fun _ _ => True) (fun _ => False)) (vx_X (fun (n : Nat) => out = some n) (fun E n _ => E = exN n) (fun _ => False)) 1 6 (fun _ => False)
theorem SXn.of {y : MethodName} {cd : ByteArray} {nL fr lo : Nat} {As : List Value} {out : Option Nat} (hy : plainName y.cls = true) (hlen : (lg_sl As).length ≤ nL)
    (body : ∀ (p : Program) (l : Launch) (e : Env) (s : State) (m : MethodId) (args : Array Value) (below : List Frame) (meth : Method) (c : Code) (z : Nat) (Q : State → Prop) (ls : Array Slot), l.stackTraces = false → p.tables.exec = Jvm.exec → c.code = cd → c.maxLocals = nL → s.vm.findClass y.cls = some m.cls → (∀ w ∈ lw_all, w.before args s = true) → ThrE z s →
      (∀ (pc : Nat) (ls : Array Slot), out = none → decode cd pc = .ok (.return_, 1) → W p l e ({ frames := fr, cells := 1, slots := 6, locals := lo } : Room) s m args below meth c s.heap [] 0 0 Q (F0 m pc ls [])) →
      (∀ (pc : Nat) (ls : Array Slot) (i ik ic : Nat) (names : List String), out = some i → ls.size = nL → (Cond.classLink y.cls ik (exN i)).before args s = true → (Cond.initialized (exN i)).before args s = true → (∀ w ∈ vx_at0 y.cls ic (exN i) names, w.before args s = true) → (∀ w ∈ Cond.classLink y.cls ik (exN i) :: Cond.initialized (exN i) :: vx_at0 y.cls ic (exN i) names, vx_ot w = true) → Bundle.fit (exN i) = true → (∀ n ∈ names, Bundle.fit n = true) → decode cd pc = .ok (.new ik, 3) → decode cd (pc + 3) = .ok (.dup, 1) → decode cd (pc + 4) = .ok (.invokespecial ic, 3) → decode cd (pc + 7) = .ok (.athrow, 1) → names.length + 3 < fr → 13 * (names.length + 1) + 42 ≤ lo → W p l e ({ frames := fr, cells := 1, slots := 6, locals := lo } : Room) s m args below meth c s.heap [] 0 0 Q (F0 m pc ls [])) →
      lv_has ls nL (lv_args 0 As) → W p l e ({ frames := fr, cells := 1, slots := 6, locals := lo } : Room) s m args below meth c s.heap [] 0 0 Q (F0 m 0 ls [])) : SXn y cd nL fr lo As out := by
  intro l z hst
  refine vx_ofW (cc := cd) (maxL := nL) (ret := none) hy rfl ?_
  intro p e s m args below meth c s₁ B hml htab hv
  obtain ⟨rfl, hT⟩ := hv
  have hts := atoms_spec (ws := ws_ y cd nL none) B.pre
  have hts : ∀ w ∈ lw_all, w.before _ s = true := fun w h => hts w (List.mem_cons_of_mem _ h)
  have hl := lv_entry As (n := nL) hlen
  rw [lg_entry_eq]
  generalize (lg_sl As ++ List.replicate (nL - (lg_sl As).length) Slot.unset).toArray = ls at hl ⊢
  have hown := findClass_of_methodNamed B.named
  refine body p l e s m _ below meth c z _ ls hst B.exec B.bytes hml hown hts hT (fun pc ls ho hdg => vx_ret ?_) (fun pc ls i ik ic names ho hls hk hini hat hgood hfit hfits d0 d3 d4 d7 hfr hlo => ?_) hl
  · exact W.widen (Nat.le_succ 0) (Nat.zero_le 6) (W.vret B.exec B.bytes B.returns (fun t ht hW => ⟨⟨(), rfl, ho, trivial⟩, ⟨by rw [ht]; exact Nat.le_refl _, fun q _ _ => by rw [ht]⟩⟩) (fun _ h => nomatch h) hdg B.notSynchronized)
  · refine vx_throw0 (A := zZ z) (names := names) B.exec B.bytes hst hown hfit hfits hk hini hat hgood hT.2.2.1 hT.2.2.2 va_S.rf (by rw [hls, hml]) d0 d3 d4 d7 (fun x hx => (htab x hx).elim) hfr (by simpa using hlo) (Nat.le_refl _) (Nat.le_refl _) B.notSynchronized (fun t _ hz hq => ⟨i, ho, rfl, hz, fun q h1 _ => hq q h1⟩) (fun _ h => nomatch h) (Nat.le_refl _) (Nat.le_refl _)

/-- .. and when it throws nothing: no cell -/
def SVn (y : MethodName) (cd : ByteArray) (nL fr lo : Nat) (As : List Value) : Prop :=
  ∀ (l : Launch), Met l y (ws_ y cd nL none) ({ frames := fr, cells := 0, slots := 0, locals := lo }) (va_Pc As (fun _ => True)) (fun _ st o t => o = .returned none ∧ t.heap = st.heap) 0 0 (fun _ => False)
theorem SVn.of {y : MethodName} {cd : ByteArray} {nL fr lo : Nat} {As : List Value} (hy : plainName y.cls = true) (hlen : (lg_sl As).length ≤ nL)
    (body : ∀ (p : Program) (l : Launch) (e : Env) (s : State) (m : MethodId) (args : Array Value) (below : List Frame) (meth : Method) (c : Code) (Q : State → Prop) (ls : Array Slot), p.tables.exec = Jvm.exec → c.code = cd → c.maxLocals = nL → s.vm.findClass y.cls = some m.cls → (∀ w ∈ lw_all, w.before args s = true) →
      (∀ (pc : Nat) (ls : Array Slot), decode cd pc = .ok (.return_, 1) → W p l e ({ frames := fr, cells := 0, slots := 0, locals := lo } : Room) s m args below meth c s.heap [] 0 0 Q (F0 m pc ls [])) →
      lv_has ls nL (lv_args 0 As) → W p l e ({ frames := fr, cells := 0, slots := 0, locals := lo } : Room) s m args below meth c s.heap [] 0 0 Q (F0 m 0 ls [])) : SVn y cd nL fr lo As := by
  intro l
  refine Met.ofW (cc := cd) (maxL := nL) (ret := none) hy rfl ?_
  intro p e s m args below meth c s₁ B hml hv
  obtain ⟨rfl, -⟩ := hv
  have hts := atoms_spec (ws := ws_ y cd nL none) B.pre
  have hts : ∀ w ∈ lw_all, w.before _ s = true := fun w h => hts w (List.mem_cons_of_mem _ h)
  have hl := lv_entry As (n := nL) hlen
  rw [lg_entry_eq]
  generalize (lg_sl As ++ List.replicate (nL - (lg_sl As).length) Slot.unset).toArray = ls at hl ⊢
  exact body p l e s m _ below meth c _ ls B.exec B.bytes hml (findClass_of_methodNamed B.named) hts (fun pc ls hdg => W.vret B.exec B.bytes B.returns (fun t ht hW => ⟨rfl, ht⟩) (fun _ h => nomatch h) hdg B.notSynchronized) hl
theorem tcallSv {p : Program} {l : Launch} {e : Env} {R : Room} {s : State} {m : MethodId} {args : Array Value} {below : List Frame} {meth : Method} {c : Code} {H : Heap} {locs : List Loc} {cells slots : Nat} {Q : State → Prop} {cc : ByteArray} {pc : Nat} {ls : Array Slot} {rest : List Value} (hx : p.tables.exec = Jvm.exec) (hb : c.code = cc) (hts : ∀ w ∈ lw_all, w.before args s = true) {own : String} (hown : s.vm.findClass own = some m.cls) {nL : Nat} (hml : c.maxLocals = nL) (hlsz : ls.size = nL)
    {y : MethodName} {cd : ByteArray} {nL' fr lo n index : Nat} {As : List Value} (hM : SVn y cd nL' fr lo As) (cw : CallB R s args own index y cd nL' none (ws_ y cd nL' none) ({ frames := fr, cells := 0, slots := 0, locals := lo }) 0 0 n ∧ (Cond.static y).before args s = true)
    (hc : cells ≤ R.cells ∧ slots ≤ R.slots) (hn : As.length = n) {st : List Value} (hst : st = As.reverse ++ rest) (hW : 2 * (F0 m pc ls st).monitorRoom + (rest.map fun v => v.category).sum ≤ 8) (hdg : decode cc pc = .ok (.invokestatic index, 3))
    (kk : W p l e R s m args below meth c H locs cells slots Q (F0 m (pc + 3) ls rest)) : W p l e R s m args below meth c H locs cells slots Q (F0 m pc ls st) := by
  intro T hT X
  obtain ⟨v, st₀, t, T', L, h0, X', hL, e1, e2, ⟨hv, hh⟩, stp⟩ := va_runS (As := As) (rest := rest) ⟨hx, hb, hml, hown, hts⟩ (hM l) cw ⟨fun a U g mk q => ⟨q.1, trivial⟩, fun U hU hW => ⟨rfl, trivial⟩⟩ rfl hn hlsz hst hW hdg ⟨hc.1, hc.2⟩ T hT X
  have hL0 : L = [] := noloc hL
  subst hL0
  cases hv
  rw [List.append_nil] at X'
  obtain ⟨t2, a1, b1⟩ := kk T' (by rw [e1, hh, h0]) X'
  exact ⟨t2, stp t2 a1, b1⟩

theorem csX1_in_X1 {R : Room} {s : State} {args : Array Value} {fr lo : Nat} (hts : ∀ w ∈ lw_all, w.before args s = true) (hR : fr + 1 ≤ R.frames ∧ 8 + (3 + 11) + lo ≤ R.locals) : CallB R s args RX1 447 yX1_in cX1_in 3 (some .boolean) (ws_ yX1_in cX1_in 3 (some .boolean)) ({ frames := fr, cells := 0, slots := 0, locals := lo }) 0 0 3 ∧ (Cond.static yX1_in).before args s = true :=
  va_cwS 3 hts (lw_S q1676 q867 q133 q868) rfl rfl rfl (by decide +kernel) hR
theorem thr0_X1 {z : Nat} {s : State} {args : Array Value} (hts : ∀ w ∈ lw_all, w.before args s = true) (hT : ThrE z s) : ∀ w ∈ vx_at0 RX1 453 "java/lang/IndexOutOfBoundsException" ["java/lang/RuntimeException", "java/lang/Exception"], w.before args s = true := by
  intro w hw
  obtain ⟨hw, hno⟩ := List.mem_filter.mp hw
  unfold Bundle.ownAtoms0 at hw
  rcases List.mem_append.mp hw with hw | hw
  · rcases List.mem_append.mp hw with hw | hw
    · exact thrA hts hT w hw hno
    · rcases List.mem_append.mp hw with hw | hw
      · exact pas0 hts hT w hw hno
      · rcases List.mem_append.mp hw with hw | hw
        · exact pasRE hts hT w hw hno
        · exact pasEX hts hT w hw hno
  · simp only [List.mem_cons, List.not_mem_nil, or_false] at hw
    rcases hw with rfl | rfl | rfl | rfl | rfl | rfl | rfl | rfl | rfl | rfl | rfl | rfl | rfl | rfl
    · exact hts _ q1686
    · exact hts _ q1678
    · exact va_Nw.use rfl (hT.2.1 0 _ rfl)
    · exact hts _ q1680
    · exact hts _ q1059
    · exact hts _ q1681
    · exact hts _ q1682
    · exact hts _ q1683
    · exact hts _ q1684
    · exact absurd hno (by decide +kernel)
    · exact absurd hno (by decide +kernel)
    · exact hts _ q1044
    · exact hts _ q1043
    · exact hts _ q1685
/-- which exception it throws, if any -/
def X1_there (a0 : Int32) (a1 : Int32) : Option (Option Nat) :=
    (X1_in a0 (0 : Int32) (a1 - (1 : Int32))).bind fun x =>
    if x = 0 then some (some 0) else some none
theorem mX1_there (a0 : Int32) (a1 : Int32) (out : Option Nat) (hf : X1_there a0 a1 = some out) : SXn yX1_there cX1_there 2 10 300 [.int a0, .int a1] out := by
  refine SXn.of (by decide) (Nat.le_of_ble_eq_true rfl) ?_
  intro p l e s m args below meth c z Q ls hst hx hb hml hown hts hT hret hthr hl
  have hl : lv_has ls 2 [(0, .int a0), (1, .int a1)] := hl
  unfold X1_there at hf
  refine lv_iload_n hx hb dX1_there_0 rfl (lv_at hl 0 rfl) ?_
  refine lv_iconst (v := (0 : Int32)) hx hb dX1_there_1 (by decide) ?_
  refine lv_iload_n hx hb dX1_there_2 rfl (lv_at hl 1 rfl) ?_
  refine lv_iconst (v := (1 : Int32)) hx hb dX1_there_3 (by decide) ?_
  refine lv_isub hx hb dX1_there_4 ?_
  obtain ⟨x, ex, hf⟩ := obd hf
  refine tcallS (rest := []) hx hb hts hown hml hl.1 (mX1_in a0 (0 : Int32) (a1 - (1 : Int32)) _ ex) (csX1_in_X1 hts ⟨Nat.le_of_ble_eq_true rfl, Nat.le_of_ble_eq_true rfl⟩) ⟨Nat.le_of_ble_eq_true rfl, Nat.le_of_ble_eq_true rfl⟩ rfl rfl (lv_room (Nat.le_of_ble_eq_true rfl)) dX1_there_5 ?_
  refine lv_if_ne (tgt := 19) hx hb dX1_there_8 (by decide) (fun hc => ?_) (fun hc => ?_)
  · rw [if_neg hc] at hf
    exact hret 19 ls (Option.some.inj hf).symm dX1_there_19
  · rw [if_pos hc] at hf
    exact hthr 11 ls 0 451 453 ["java/lang/RuntimeException", "java/lang/Exception"] (Option.some.inj hf).symm hl.1 (hts _ q1677) (hts _ q172) (thr0_X1 hts hT) (by decide +kernel) (by decide +kernel) (by decide +kernel) dX1_there_11 dX1_there_14 dX1_there_15 dX1_there_18 (Nat.le_of_ble_eq_true rfl) (Nat.le_of_ble_eq_true rfl)
theorem nX1_there (a0 : Int32) (a1 : Int32) (hf : X1_there a0 a1 = some none) : SVn yX1_there cX1_there 2 10 300 [.int a0, .int a1] := by
  refine SVn.of (by decide) (Nat.le_of_ble_eq_true rfl) ?_
  intro p l e s m args below meth c Q ls hx hb hml hown hts hret hl
  have hl : lv_has ls 2 [(0, .int a0), (1, .int a1)] := hl
  unfold X1_there at hf
  refine lv_iload_n hx hb dX1_there_0 rfl (lv_at hl 0 rfl) ?_
  refine lv_iconst (v := (0 : Int32)) hx hb dX1_there_1 (by decide) ?_
  refine lv_iload_n hx hb dX1_there_2 rfl (lv_at hl 1 rfl) ?_
  refine lv_iconst (v := (1 : Int32)) hx hb dX1_there_3 (by decide) ?_
  refine lv_isub hx hb dX1_there_4 ?_
  obtain ⟨x, ex, hf⟩ := obd hf
  refine tcallS (rest := []) hx hb hts hown hml hl.1 (mX1_in a0 (0 : Int32) (a1 - (1 : Int32)) _ ex) (csX1_in_X1 hts ⟨Nat.le_of_ble_eq_true rfl, Nat.le_of_ble_eq_true rfl⟩) ⟨Nat.le_of_ble_eq_true rfl, Nat.le_of_ble_eq_true rfl⟩ rfl rfl (lv_room (Nat.le_of_ble_eq_true rfl)) dX1_there_5 ?_
  refine lv_if_ne (tgt := 19) hx hb dX1_there_8 (by decide) (fun hc => ?_) (fun hc => ?_)
  · exact hret 19 ls dX1_there_19
  · rw [if_pos hc] at hf
    cases hf
theorem thr1_X1 {z : Nat} {s : State} {args : Array Value} (hts : ∀ w ∈ lw_all, w.before args s = true) (hT : ThrE z s) : ∀ w ∈ vx_at0 RX1 233 "java/lang/IllegalArgumentException" ["java/lang/RuntimeException", "java/lang/Exception"], w.before args s = true := by
  intro w hw
  obtain ⟨hw, hno⟩ := List.mem_filter.mp hw
  unfold Bundle.ownAtoms0 at hw
  rcases List.mem_append.mp hw with hw | hw
  · rcases List.mem_append.mp hw with hw | hw
    · exact thrA hts hT w hw hno
    · rcases List.mem_append.mp hw with hw | hw
      · exact pas1 hts hT w hw hno
      · rcases List.mem_append.mp hw with hw | hw
        · exact pasRE hts hT w hw hno
        · exact pasEX hts hT w hw hno
  · simp only [List.mem_cons, List.not_mem_nil, or_false] at hw
    rcases hw with rfl | rfl | rfl | rfl | rfl | rfl | rfl | rfl | rfl | rfl | rfl | rfl | rfl | rfl
    · exact hts _ q1368
    · exact hts _ q1024
    · exact va_Nw.use rfl (hT.2.1 1 _ rfl)
    · exact hts _ q1032
    · exact hts _ q1033
    · exact hts _ q1034
    · exact hts _ q1036
    · exact hts _ q1038
    · exact hts _ q1040
    · exact absurd hno (by decide +kernel)
    · exact absurd hno (by decide +kernel)
    · exact hts _ q1044
    · exact hts _ q1043
    · exact hts _ q1042
/-- which exception it throws, if any -/
def X1_demand (a0 : Int32) : Option (Option Nat) :=
    if a0 = 0 then some (some 1) else some none
theorem mX1_demand (a0 : Int32) (out : Option Nat) (hf : X1_demand a0 = some out) : SXn yX1_demand cX1_demand 1 10 300 [.int a0] out := by
  refine SXn.of (by decide) (Nat.le_of_ble_eq_true rfl) ?_
  intro p l e s m args below meth c z Q ls hst hx hb hml hown hts hT hret hthr hl
  have hl : lv_has ls 1 [(0, .int a0)] := hl
  unfold X1_demand at hf
  refine lv_iload_n hx hb dX1_demand_0 rfl (lv_at hl 0 rfl) ?_
  refine lv_if_ne (tgt := 12) hx hb dX1_demand_1 (by decide) (fun hc => ?_) (fun hc => ?_)
  · rw [if_neg hc] at hf
    exact hret 12 ls (Option.some.inj hf).symm dX1_demand_12
  · rw [if_pos hc] at hf
    exact hthr 4 ls 1 231 233 ["java/lang/RuntimeException", "java/lang/Exception"] (Option.some.inj hf).symm hl.1 (hts _ q1367) (hts _ q156) (thr1_X1 hts hT) (by decide +kernel) (by decide +kernel) (by decide +kernel) dX1_demand_4 dX1_demand_7 dX1_demand_8 dX1_demand_11 (Nat.le_of_ble_eq_true rfl) (Nat.le_of_ble_eq_true rfl)
theorem nX1_demand (a0 : Int32) (hf : X1_demand a0 = some none) : SVn yX1_demand cX1_demand 1 10 300 [.int a0] := by
  refine SVn.of (by decide) (Nat.le_of_ble_eq_true rfl) ?_
  intro p l e s m args below meth c Q ls hx hb hml hown hts hret hl
  have hl : lv_has ls 1 [(0, .int a0)] := hl
  unfold X1_demand at hf
  refine lv_iload_n hx hb dX1_demand_0 rfl (lv_at hl 0 rfl) ?_
  refine lv_if_ne (tgt := 12) hx hb dX1_demand_1 (by decide) (fun hc => ?_) (fun hc => ?_)
  · exact hret 12 ls dX1_demand_12
  · rw [if_pos hc] at hf
    cases hf
theorem thr2_X1 {z : Nat} {s : State} {args : Array Value} (hts : ∀ w ∈ lw_all, w.before args s = true) (hT : ThrE z s) : ∀ w ∈ vx_at0 RX1 456 "java/lang/IllegalStateException" ["java/lang/RuntimeException", "java/lang/Exception"], w.before args s = true := by
  intro w hw
  obtain ⟨hw, hno⟩ := List.mem_filter.mp hw
  unfold Bundle.ownAtoms0 at hw
  rcases List.mem_append.mp hw with hw | hw
  · rcases List.mem_append.mp hw with hw | hw
    · exact thrA hts hT w hw hno
    · rcases List.mem_append.mp hw with hw | hw
      · exact pas2 hts hT w hw hno
      · rcases List.mem_append.mp hw with hw | hw
        · exact pasRE hts hT w hw hno
        · exact pasEX hts hT w hw hno
  · simp only [List.mem_cons, List.not_mem_nil, or_false] at hw
    rcases hw with rfl | rfl | rfl | rfl | rfl | rfl | rfl | rfl | rfl | rfl | rfl | rfl | rfl | rfl
    · exact hts _ q1813
    · exact hts _ q1805
    · exact va_Nw.use rfl (hT.2.1 2 _ rfl)
    · exact hts _ q1807
    · exact hts _ q1058
    · exact hts _ q1808
    · exact hts _ q1809
    · exact hts _ q1810
    · exact hts _ q1811
    · exact absurd hno (by decide +kernel)
    · exact absurd hno (by decide +kernel)
    · exact hts _ q1044
    · exact hts _ q1043
    · exact hts _ q1812
/-- which exception it throws, if any -/
def X1_can (a0 : Int32) : Option (Option Nat) :=
    if a0 = 0 then some (some 2) else some none
theorem mX1_can (a0 : Int32) (out : Option Nat) (hf : X1_can a0 = some out) : SXn yX1_can cX1_can 1 10 300 [.int a0] out := by
  refine SXn.of (by decide) (Nat.le_of_ble_eq_true rfl) ?_
  intro p l e s m args below meth c z Q ls hst hx hb hml hown hts hT hret hthr hl
  have hl : lv_has ls 1 [(0, .int a0)] := hl
  unfold X1_can at hf
  refine lv_iload_n hx hb dX1_can_0 rfl (lv_at hl 0 rfl) ?_
  refine lv_if_ne (tgt := 12) hx hb dX1_can_1 (by decide) (fun hc => ?_) (fun hc => ?_)
  · rw [if_neg hc] at hf
    exact hret 12 ls (Option.some.inj hf).symm dX1_can_12
  · rw [if_pos hc] at hf
    exact hthr 4 ls 2 454 456 ["java/lang/RuntimeException", "java/lang/Exception"] (Option.some.inj hf).symm hl.1 (hts _ q1804) (hts _ q176) (thr2_X1 hts hT) (by decide +kernel) (by decide +kernel) (by decide +kernel) dX1_can_4 dX1_can_7 dX1_can_8 dX1_can_11 (Nat.le_of_ble_eq_true rfl) (Nat.le_of_ble_eq_true rfl)
theorem nX1_can (a0 : Int32) (hf : X1_can a0 = some none) : SVn yX1_can cX1_can 1 10 300 [.int a0] := by
  refine SVn.of (by decide) (Nat.le_of_ble_eq_true rfl) ?_
  intro p l e s m args below meth c Q ls hx hb hml hown hts hret hl
  have hl : lv_has ls 1 [(0, .int a0)] := hl
  unfold X1_can at hf
  refine lv_iload_n hx hb dX1_can_0 rfl (lv_at hl 0 rfl) ?_
  refine lv_if_ne (tgt := 12) hx hb dX1_can_1 (by decide) (fun hc => ?_) (fun hc => ?_)
  · exact hret 12 ls dX1_can_12
  · rw [if_pos hc] at hf
    cases hf
theorem thr3_X1 {z : Nat} {s : State} {args : Array Value} (hts : ∀ w ∈ lw_all, w.before args s = true) (hT : ThrE z s) : ∀ w ∈ vx_at0 RX1 459 "java/util/NoSuchElementException" ["java/lang/RuntimeException", "java/lang/Exception"], w.before args s = true := by
  intro w hw
  obtain ⟨hw, hno⟩ := List.mem_filter.mp hw
  unfold Bundle.ownAtoms0 at hw
  rcases List.mem_append.mp hw with hw | hw
  · rcases List.mem_append.mp hw with hw | hw
    · exact thrA hts hT w hw hno
    · rcases List.mem_append.mp hw with hw | hw
      · exact pas3 hts hT w hw hno
      · rcases List.mem_append.mp hw with hw | hw
        · exact pasRE hts hT w hw hno
        · exact pasEX hts hT w hw hno
  · simp only [List.mem_cons, List.not_mem_nil, or_false] at hw
    rcases hw with rfl | rfl | rfl | rfl | rfl | rfl | rfl | rfl | rfl | rfl | rfl | rfl | rfl | rfl
    · exact hts _ q1704
    · exact hts _ q1696
    · exact va_Nw.use rfl (hT.2.1 3 _ rfl)
    · exact hts _ q1698
    · exact hts _ q1061
    · exact hts _ q1699
    · exact hts _ q1700
    · exact hts _ q1701
    · exact hts _ q1702
    · exact absurd hno (by decide +kernel)
    · exact absurd hno (by decide +kernel)
    · exact hts _ q1044
    · exact hts _ q1043
    · exact hts _ q1703
/-- which exception it throws, if any -/
def X1_question (a0 : Int32) (a1 : Int32) : Option (Option Nat) :=
    (X1_in a0 (0 : Int32) a1).bind fun x =>
    if x = 0 then some (some 3) else some none
theorem mX1_question (a0 : Int32) (a1 : Int32) (out : Option Nat) (hf : X1_question a0 a1 = some out) : SXn yX1_question cX1_question 2 10 300 [.int a0, .int a1] out := by
  refine SXn.of (by decide) (Nat.le_of_ble_eq_true rfl) ?_
  intro p l e s m args below meth c z Q ls hst hx hb hml hown hts hT hret hthr hl
  have hl : lv_has ls 2 [(0, .int a0), (1, .int a1)] := hl
  unfold X1_question at hf
  refine lv_iload_n hx hb dX1_question_0 rfl (lv_at hl 0 rfl) ?_
  refine lv_iconst (v := (0 : Int32)) hx hb dX1_question_1 (by decide) ?_
  refine lv_iload_n hx hb dX1_question_2 rfl (lv_at hl 1 rfl) ?_
  obtain ⟨x, ex, hf⟩ := obd hf
  refine tcallS (rest := []) hx hb hts hown hml hl.1 (mX1_in a0 (0 : Int32) a1 _ ex) (csX1_in_X1 hts ⟨Nat.le_of_ble_eq_true rfl, Nat.le_of_ble_eq_true rfl⟩) ⟨Nat.le_of_ble_eq_true rfl, Nat.le_of_ble_eq_true rfl⟩ rfl rfl (lv_room (Nat.le_of_ble_eq_true rfl)) dX1_question_3 ?_
  refine lv_if_ne (tgt := 17) hx hb dX1_question_6 (by decide) (fun hc => ?_) (fun hc => ?_)
  · rw [if_neg hc] at hf
    exact hret 17 ls (Option.some.inj hf).symm dX1_question_17
  · rw [if_pos hc] at hf
    exact hthr 9 ls 3 457 459 ["java/lang/RuntimeException", "java/lang/Exception"] (Option.some.inj hf).symm hl.1 (hts _ q1695) (hts _ q174) (thr3_X1 hts hT) (by decide +kernel) (by decide +kernel) (by decide +kernel) dX1_question_9 dX1_question_12 dX1_question_13 dX1_question_16 (Nat.le_of_ble_eq_true rfl) (Nat.le_of_ble_eq_true rfl)
theorem nX1_question (a0 : Int32) (a1 : Int32) (hf : X1_question a0 a1 = some none) : SVn yX1_question cX1_question 2 10 300 [.int a0, .int a1] := by
  refine SVn.of (by decide) (Nat.le_of_ble_eq_true rfl) ?_
  intro p l e s m args below meth c Q ls hx hb hml hown hts hret hl
  have hl : lv_has ls 2 [(0, .int a0), (1, .int a1)] := hl
  unfold X1_question at hf
  refine lv_iload_n hx hb dX1_question_0 rfl (lv_at hl 0 rfl) ?_
  refine lv_iconst (v := (0 : Int32)) hx hb dX1_question_1 (by decide) ?_
  refine lv_iload_n hx hb dX1_question_2 rfl (lv_at hl 1 rfl) ?_
  obtain ⟨x, ex, hf⟩ := obd hf
  refine tcallS (rest := []) hx hb hts hown hml hl.1 (mX1_in a0 (0 : Int32) a1 _ ex) (csX1_in_X1 hts ⟨Nat.le_of_ble_eq_true rfl, Nat.le_of_ble_eq_true rfl⟩) ⟨Nat.le_of_ble_eq_true rfl, Nat.le_of_ble_eq_true rfl⟩ rfl rfl (lv_room (Nat.le_of_ble_eq_true rfl)) dX1_question_3 ?_
  refine lv_if_ne (tgt := 17) hx hb dX1_question_6 (by decide) (fun hc => ?_) (fun hc => ?_)
  · exact hret 17 ls dX1_question_17
  · rw [if_pos hc] at hf
    cases hf
theorem csX1_demand_X1 {R : Room} {s : State} {args : Array Value} {fr lo : Nat} (hts : ∀ w ∈ lw_all, w.before args s = true) (hR : fr + 1 ≤ R.frames ∧ 8 + (1 + 11) + lo ≤ R.locals) : CallB R s args RX1 466 yX1_demand cX1_demand 1 (none) (ws_ yX1_demand cX1_demand 1 (none)) ({ frames := fr, cells := 1, slots := 6, locals := lo }) 1 6 1 ∧ (Cond.static yX1_demand).before args s = true :=
  va_cwS 1 hts (lw_S q1777 q1778 q133 q1779) rfl rfl rfl (by decide +kernel) hR
def X1_aheadBy (a0 : Int32) : Option (Option Nat) := (X1_in a0 (0 : Int32) (80 : Int32)).bind fun x => X1_demand x
theorem mX1_aheadBy (a0 : Int32) (out : Option Nat) (hf : X1_aheadBy a0 = some out) : SXn yX1_aheadBy cX1_aheadBy 1 12 400 [.int a0] out := by
  intro l z hst
  refine vx_ofW (cc := cX1_aheadBy) (maxL := 1) (ret := none) (by decide) rfl ?_
  intro p e s m args below meth c s₁ B hml htab hv
  obtain ⟨rfl, hT⟩ := hv
  have hts := atoms_spec (ws := ws_ yX1_aheadBy cX1_aheadBy 1 none) B.pre
  have hts : ∀ w ∈ lw_all, w.before _ s = true := fun w h => hts w (List.mem_cons_of_mem _ h)
  have hl := lv_entry [.int a0] (n := 1) (Nat.le_of_ble_eq_true rfl)
  rw [lg_entry_eq]
  generalize (lg_sl [.int a0] ++ List.replicate (1 - (lg_sl [.int a0]).length) Slot.unset).toArray = ls at hl ⊢
  have hown : s.vm.findClass RX1 = some m.cls := findClass_of_methodNamed B.named
  have hl : lv_has ls 1 [(0, .int a0)] := hl
  have hx := B.exec
  have hb := B.bytes
  unfold X1_aheadBy at hf
  refine lv_iload_n hx hb dX1_aheadBy_0 rfl (lv_at hl 0 rfl) ?_
  refine lv_iconst (v := (0 : Int32)) hx hb dX1_aheadBy_1 (by decide) ?_
  refine lv_bipush (v := (80 : Int32)) hx hb dX1_aheadBy_2 (by decide) ?_
  obtain ⟨x, ex, hf⟩ := obd hf
  refine tcallS (rest := []) hx hb hts hown hml hl.1 (mX1_in a0 (0 : Int32) (80 : Int32) _ ex) (csX1_in_X1 hts ⟨Nat.le_of_ble_eq_true rfl, Nat.le_of_ble_eq_true rfl⟩) ⟨Nat.le_of_ble_eq_true rfl, Nat.le_of_ble_eq_true rfl⟩ rfl rfl (lv_room (Nat.le_of_ble_eq_true rfl)) dX1_aheadBy_4 ?_
  refine vx_callv (vx_runS (As := [.int x]) (rest := []) ⟨hx, hb, hml, hown, hts⟩ (mX1_demand x _ hf l z hst) (csX1_demand_X1 hts ⟨Nat.le_of_ble_eq_true rfl, Nat.le_of_ble_eq_true rfl⟩) ⟨fun a U g mk q => ⟨q.1, q.2.go (State.WarmedH.refl U) (fun _ _ _ => rfl)⟩, fun U hU hW => ⟨rfl, hT.go hW (fun q h1 h2 => by rw [hU])⟩⟩ rfl rfl hl.1 rfl (lv_room (Nat.le_of_ble_eq_true rfl)) dX1_aheadBy_7 ⟨Nat.le_of_ble_eq_true rfl, Nat.le_of_ble_eq_true rfl⟩) (va_S.rf (A := fun _ => False)) (fun q _ h => h) (fun q h => h.elim) (fun q _ h => h) (fun E ce q9 u t H1 locs1 ht hvm hp hB hz1 hk1 hS h1 h2 h3 => ?_) (fun u t H1 locs1 ht hvm hp hB hz1 hk1 hS => ?_)
  · exact vx_out (fun x hx => (htab x hx).elim) B.notSynchronized h1 h2 h3 (fun t ht _ => ⟨u, hp, hB, hS.F ht⟩) hS.2.2 (Nat.le_refl _) (Nat.le_refl _)
  · exact vx_ret (W.vret hx hb B.returns (fun t ht hW => ⟨⟨(), rfl, hp, trivial⟩, hS.F ht⟩) hS.2.2 dX1_aheadBy_10 B.notSynchronized)
theorem dsX1_demand_X1 {R : Room} {s : State} {args : Array Value} {fr lo : Nat} (hts : ∀ w ∈ lw_all, w.before args s = true) (hR : fr + 1 ≤ R.frames ∧ 8 + (1 + 11) + lo ≤ R.locals) : CallB R s args RX1 466 yX1_demand cX1_demand 1 (none) (ws_ yX1_demand cX1_demand 1 (none)) ({ frames := fr, cells := 0, slots := 0, locals := lo }) 0 0 1 ∧ (Cond.static yX1_demand).before args s = true :=
  va_cwS 1 hts (lw_S q1777 q1778 q133 q1779) rfl rfl rfl (by decide +kernel) hR
theorem nX1_aheadBy (a0 : Int32) (hf : X1_aheadBy a0 = some none) : SVn yX1_aheadBy cX1_aheadBy 1 12 400 [.int a0] := by
  refine SVn.of (by decide) (Nat.le_of_ble_eq_true rfl) ?_
  intro p l e s m args below meth c Q ls hx hb hml hown hts hret hl
  have hl : lv_has ls 1 [(0, .int a0)] := hl
  unfold X1_aheadBy at hf
  refine lv_iload_n hx hb dX1_aheadBy_0 rfl (lv_at hl 0 rfl) ?_
  refine lv_iconst (v := (0 : Int32)) hx hb dX1_aheadBy_1 (by decide) ?_
  refine lv_bipush (v := (80 : Int32)) hx hb dX1_aheadBy_2 (by decide) ?_
  obtain ⟨x, ex, hf⟩ := obd hf
  refine tcallS (rest := []) hx hb hts hown hml hl.1 (mX1_in a0 (0 : Int32) (80 : Int32) _ ex) (csX1_in_X1 hts ⟨Nat.le_of_ble_eq_true rfl, Nat.le_of_ble_eq_true rfl⟩) ⟨Nat.le_of_ble_eq_true rfl, Nat.le_of_ble_eq_true rfl⟩ rfl rfl (lv_room (Nat.le_of_ble_eq_true rfl)) dX1_aheadBy_4 ?_
  refine tcallSv (rest := []) hx hb hts hown hml hl.1 (nX1_demand x hf) (dsX1_demand_X1 hts ⟨Nat.le_of_ble_eq_true rfl, Nat.le_of_ble_eq_true rfl⟩) ⟨Nat.le_of_ble_eq_true rfl, Nat.le_of_ble_eq_true rfl⟩ rfl rfl (lv_room (Nat.le_of_ble_eq_true rfl)) dX1_aheadBy_7 ?_
  exact hret 10 ls dX1_aheadBy_10