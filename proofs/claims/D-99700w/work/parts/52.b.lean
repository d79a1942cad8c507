set_option maxRecDepth 100000
abbrev cJ5_length : ByteArray := prog_39_method_93_code
def yJ5_length : MethodName := ⟨RJ5, "length", "()I"⟩
theorem dJ5_length_0 : decode cJ5_length 0 = .ok (.aload_n 0, 1) := by decide +kernel
theorem dJ5_length_1 : decode cJ5_length 1 = .ok (.invokespecial 343, 3) := by decide +kernel
theorem dJ5_length_4 : decode cJ5_length 4 = .ok (.ireturn, 1) := by decide +kernel

abbrev sbO (q vq n : Nat) : Nat × va_E := (q, .inr (15, [.ref vq, .int 0, .int 0, .int (nI n)]))
abbrev byO (J : Nat → ClassId) (v n : Nat) (f : Nat → Int32) : Nat × va_E := (v, .inl (J 2, n, .inl f))
/-- what the builder's code asks besides: words that don't ride in the lists -/
def SbE (U : State) : Prop := va_Nw (.privateMethod yJ4_ensureCapacityInternal) U ∧ va_Nw (.privateMethod yJ4_newCapacity) U ∧ va_Nw (.castable "[B" "java/lang/Cloneable") U
theorem prv_warm {y : MethodName} {s U : State} (hW : s.WarmedH U.vm) (h : va_Nw (.privateMethod y) s) : va_Nw (.privateMethod y) U := Cond.privateMethod_warm (args := #[]) (args' := #[]) hW h
theorem SbE.go {s U : State} (h : SbE s) (hW : s.WarmedH U.vm) : SbE U := ⟨prv_warm hW h.1, prv_warm hW h.2.1, va_Nw.warmC hW h.2.2⟩
def EB (aK aV : Nat → Nat) (D : va_G) (J : Nat → ClassId) (z : Nat) (U : State) : Prop := EC D J z aK aV U ∧ SbE U
theorem EB.go {aK aV : Nat → Nat} {D : va_G} {J : Nat → ClassId} {z : Nat} {s U : State} (h : EB aK aV D J z s) (hW : s.WarmedH U.vm) (hq : ∀ q : Nat, q < s.heap.size → ¬ z ≤ q → U.heap[q]? = s.heap[q]?) : EB aK aV D J z U := ⟨h.1.go hW hq, h.2.go hW⟩
theorem lw_U {own C owner : String} {idx : Nat} {x y : MethodName} {b : ByteArray} {L : Nat} {r : Option FieldType} (h1 : Cond.methodLink own idx x ∈ lw_all) (h2 : Cond.sameMethod x.cls owner x.name x.desc ∈ lw_all) (h3 : Cond.selects C x y ∈ lw_all) (h4 : Cond.instanceMethod y ∈ lw_all) (h5 : Cond.initialized y.cls ∈ lw_all) (h6 : Cond.code y b L r ∈ lw_all) : GoodIn lw_all (va_wsU own idx C owner x y (ws_ y b L r)) := by
  unfold va_wsU
  refine lw_app ?_ (lw_meth h6)
  intro w hw
  simp only [List.mem_cons, List.not_mem_nil, or_false] at hw
  rcases hw with rfl | rfl | rfl | rfl | rfl
  · exact h1
  · exact h2
  · exact h3
  · exact h4
  · exact h5
theorem lw_O {own C owner : String} {idx : Nat} {x y : MethodName} {b : ByteArray} {L : Nat} {r : Option FieldType} (h1 : Cond.methodLink own idx x ∈ lw_all) (h2 : Cond.sameMethod x.cls owner x.name x.desc ∈ lw_all) (h3 : Cond.instanceMethod ⟨owner, x.name, x.desc⟩ ∈ lw_all) (h4 : Cond.selects C x y ∈ lw_all) (h5 : Cond.instanceMethod y ∈ lw_all) (h6 : Cond.initialized y.cls ∈ lw_all) (h7 : Cond.code y b L r ∈ lw_all) : GoodIn lw_all (va_wsO own idx C owner x y (ws_ y b L r)) := by
  unfold va_wsO
  refine lw_app ?_ (lw_meth h7)
  intro w hw
  simp only [List.mem_cons, List.not_mem_nil, or_false] at hw
  rcases hw with rfl | rfl | rfl | rfl | rfl | rfl
  · exact h1
  · exact h2
  · exact h3
  · exact h4
  · exact h5
  · exact h6
theorem lw_SU {own : String} {idx : Nat} {y : MethodName} {b : ByteArray} {L : Nat} {r : Option FieldType} (h1 : Cond.methodLink own idx y ∈ lw_all) (h2 : Cond.sameMethod y.cls y.cls y.name y.desc ∈ lw_all) (h3 : Cond.superclass own y.cls ∈ lw_all) (h4 : Cond.instanceMethod y ∈ lw_all) (h5 : Cond.initialized y.cls ∈ lw_all) (h6 : Cond.code y b L r ∈ lw_all) : GoodIn lw_all (va_wsSU own idx y (ws_ y b L r)) := by
  unfold va_wsSU
  refine lw_app ?_ (lw_meth h6)
  intro w hw
  simp only [List.mem_cons, List.not_mem_nil, or_false] at hw
  rcases hw with rfl | rfl | rfl | rfl | rfl
  · exact h1
  · exact h2
  · exact h3
  · exact h4
  · exact h5
/-- a private method of the builder's superclass is selected as it is -/
theorem sbSel {y : MethodName} {s : State} {args : Array Value} {x : MethodName} (hy : y.cls ≠ "java/lang/invoke/MethodHandle" ∧ y.cls ≠ "java/lang/invoke/VarHandle") (hxy : x.cls = y.cls) (hpriv : va_Nw (.privateMethod y) s) (hinst : (Cond.instanceMethod y).before args s = true) (hsel : (Cond.selects "java/lang/StringBuilder" x x).before args s = true) : (Cond.selects "java/lang/StringBuilder" y y).before args s = true := by
  obtain ⟨c2, r2, m2, q1, q2, q3, q4, kP, hkP, hkPi⟩ := Cond.selects_spec hsel
  obtain ⟨mk, methM, hnamed, hmethM, -, -⟩ := Cond.instanceMethod_spec hinst
  have hfound : s.methodFound? y.cls y.name y.desc = some mk := State.methodFound?_of_named hnamed hy
  have hs : selectMethod {} s.vm c2 mk = .method mk := selectMethod_private hmethM (Cond.privateMethod_at (va_Nw.use (A := args) rfl hpriv) mk methM hnamed hmethM)
  have hx2 : r2 = m2 := by
    have e1 : s.methodFound? x.cls x.name x.desc = some m2 := State.methodFound?_of_named q3 (by rw [hxy]; exact hy)
    exact Option.some.inj (q2.symm.trans e1)
  have hcls : mk.cls = r2.cls := by
    have e1 := findClass_of_methodNamed hnamed
    have e2 := findClass_of_methodNamed q3
    rw [hxy] at e2
    rw [hx2]
    exact Option.some.inj (e1.symm.trans e2)
  have hk9 : s.vm.classes[mk.cls]? = some kP := by rw [hcls, hx2]; exact hkP
  simp only [Cond.before, Cond.holds, Cond.value, q1, hfound, hnamed, hs, hk9]
  simp
  exact hkPi
theorem cwSB {R : Room} {s : State} {args : Array Value} {own : String} {index maxL mc ms : Nat} {y : MethodName} {bytes : ByteArray} {ret : Option FieldType} {rm : Room} (n : Nat) (hts : ∀ w ∈ lw_all, w.before args s = true) (hq : Cond.code y bytes maxL ret ∈ lw_all) (hrc : rm.cells = mc) (hrs : rm.slots = ms) (hini : Cond.initialized y.cls ∈ lw_all) (hl : Cond.methodLink own index y ∈ lw_all) (hin : Cond.instanceMethod y ∈ lw_all) (hsel : (Cond.selects "java/lang/StringBuilder" y y).before args s = true)
    (hd : y.cls ≠ "java/lang/invoke/MethodHandle" ∧ y.cls ≠ "java/lang/invoke/VarHandle" ∧ (parseMethodDescriptor y.desc).map (fun d => d.parameters.length) = some n) (hR : rm.frames + 1 ≤ R.frames ∧ 8 + (maxL + 11) + rm.locals ≤ R.locals) : CallW R s args own "java/lang/StringBuilder" index y bytes maxL ret (ws_ y bytes maxL ret) rm mc ms n :=
  ⟨callB_of n hts (lw_meth hq) rfl hrc hrs (hts _ hini) (hts _ hl) hd hR, hts _ hin, hsel⟩

set_option maxHeartbeats 4000000 in
theorem mJ4_isLatin1 : ∀ (l : Launch) (D : va_G) (J : Nat → ClassId) (z : Nat) (aK aV : Nat → Nat) (q vq n : Nat), Met l yJ4_isLatin1 (ws_ yJ4_isLatin1 cJ4_isLatin1 1 (some .boolean)) ({ frames := 1, cells := 0, slots := 0, locals := 40 }) (va_Pc [.ref q] (fun U => va_at D vwC (sbO q vq n) U.heap ∧ EB aK aV D J z U)) (va_Qi (fun (x : Int32) (_ : Unit) => x = 1) (fun _ _ => True) (fun _ => False)) 0 0 (fun _ => False) := by
  intro l D J z aK aV q vq n
  refine Met.ofW (cc := cJ4_isLatin1) (maxL := 1) (ret := some .boolean) (by decide) rfl ?_
  intro p e s m args below meth c s₁ B hml hv
  obtain ⟨rfl, ha, hE⟩ := hv
  have hts := atoms_spec (ws := ws_ yJ4_isLatin1 cJ4_isLatin1 1 (some .boolean)) B.pre
  have hts : ∀ w ∈ lw_all, w.before _ s = true := fun w h => hts w (List.mem_cons_of_mem _ h)
  have hown : s.vm.findClass RJ4 = some m.cls := findClass_of_methodNamed B.named
  have hl := lv_entry [.ref q] (n := 1) (Nat.le_of_ble_eq_true rfl)
  rw [lg_entry_eq]
  generalize (lg_sl [.ref q] ++ List.replicate (1 - (lg_sl [.ref q]).length) Slot.unset).toArray = ls at hl ⊢
  have hl : lv_has ls 1 [(0, .ref q)] := hl
  have hx := B.exec
  have hb := B.bytes
  refine va_gets (A := zZ z) hx hb hE.1.2.1.2.2.1 va_S.rf hown (hts _ q878) (fun _ h => h) dJ4_isLatin1_0 ?_
  refine lv_if_eq (tgt := 17) hx hb dJ4_isLatin1_3 (by decide) (fun hc => absurd hc (by decide)) (fun _ => ?_)
  refine lv_aload_n hx hb dJ4_isLatin1_6 rfl (lv_at hl 0 rfl) ?_
  refine gget hx hb hts in_J5 hown hE.1.1 ha rfl 1 (by decide) q888 rfl dJ4_isLatin1_7 ?_
  refine lv_if_ne (tgt := 17) hx hb dJ4_isLatin1_10 (by decide) (fun hc => absurd rfl hc) (fun _ => ?_)
  refine lv_iconst (v := (1 : Int32)) hx hb dJ4_isLatin1_13 (by decide) ?_
  refine lv_goto (tgt := 18) hx hb dJ4_isLatin1_14 (by decide) ?_
  exact W.zret B.exec B.bytes B.returns (by rfl) (fun t ht hW => ⟨⟨_, (), rfl, rfl, trivial⟩, (va_S.rf (A := fun _ => False) (H0 := s.heap)).F ht⟩) (fun _ h => nomatch h) dJ4_isLatin1_18 B.notSynchronized
theorem mJ10_canEncode (a : Int32) (h0 : ¬ (255 : Int32) < a) : SMi yJ10_canEncode cJ10_canEncode 1 (some .boolean) 1 40 [.int a] 1 := by
  refine SMz.of (by decide) (Nat.le_of_ble_eq_true rfl) ?_
  intro p l e s m args below meth c Q ls hx hb hml hown hts hret hl
  have hret := fun pc ls hd => hret pc ls (Or.inr rfl) hd
  have hl : lv_has ls 1 [(0, .int a)] := hl
  refine lv_iload_n hx hb dJ10_canEncode_0 rfl (lv_at hl 0 rfl) ?_
  refine lv_sipush (v := (255 : Int32)) hx hb dJ10_canEncode_1 (by decide) ?_
  refine lv_icmp_gt (tgt := 11) hx hb dJ10_canEncode_4 (by decide) (fun hc => absurd hc h0) (fun _ => ?_)
  refine lv_iconst (v := (1 : Int32)) hx hb dJ10_canEncode_7 (by decide) ?_
  refine lv_goto (tgt := 12) hx hb dJ10_canEncode_8 (by decide) ?_
  exact hret 12 ls dJ10_canEncode_12
set_option maxHeartbeats 4000000 in
theorem mJ4_getValue : ∀ (l : Launch) (D : va_G) (J : Nat → ClassId) (z : Nat) (aK aV : Nat → Nat) (q vq n : Nat), Met l yJ4_getValue (ws_ yJ4_getValue cJ4_getValue 1 (some (.array .byte))) ({ frames := 1, cells := 0, slots := 0, locals := 40 }) (va_Pc [.ref q] (fun U => va_at D vwC (sbO q vq n) U.heap ∧ EB aK aV D J z U)) (va_Qr (fun (_ : Unit) => True) (fun _ x _ => x = vq) (fun _ => False)) 0 0 (fun _ => False) := by
  intro l D J z aK aV q vq n
  refine Met.ofW (cc := cJ4_getValue) (maxL := 1) (ret := some (.array .byte)) (by decide) rfl ?_
  intro p e s m args below meth c s₁ B hml hv
  obtain ⟨rfl, ha, hE⟩ := hv
  have hts := atoms_spec (ws := ws_ yJ4_getValue cJ4_getValue 1 (some (.array .byte))) B.pre
  have hts : ∀ w ∈ lw_all, w.before _ s = true := fun w h => hts w (List.mem_cons_of_mem _ h)
  have hown : s.vm.findClass RJ4 = some m.cls := findClass_of_methodNamed B.named
  have hl := lv_entry [.ref q] (n := 1) (Nat.le_of_ble_eq_true rfl)
  rw [lg_entry_eq]
  generalize (lg_sl [.ref q] ++ List.replicate (1 - (lg_sl [.ref q]).length) Slot.unset).toArray = ls at hl ⊢
  have hl : lv_has ls 1 [(0, .ref q)] := hl
  have hx := B.exec
  have hb := B.bytes
  refine lv_aload_n hx hb dJ4_getValue_0 rfl (lv_at hl 0 rfl) ?_
  refine gget hx hb hts in_J5 hown hE.1.1 ha rfl 0 (by decide) q887 rfl dJ4_getValue_1 ?_
  exact W.aret B.exec B.bytes B.returns (Or.inr ⟨_, rfl⟩) (Or.inr ⟨_, rfl⟩) (fun t ht hW => ⟨⟨(), vq, rfl, trivial, rfl⟩, (va_S.rf (A := fun _ => False) (H0 := s.heap)).F ht⟩) (fun _ h => nomatch h) dJ4_getValue_4 B.notSynchronized
set_option maxHeartbeats 4000000 in
theorem mJ4_length : ∀ (l : Launch) (D : va_G) (J : Nat → ClassId) (z : Nat) (aK aV : Nat → Nat) (q vq n : Nat), Met l yJ4_length (ws_ yJ4_length cJ4_length 1 (some .int)) ({ frames := 1, cells := 0, slots := 0, locals := 40 }) (va_Pc [.ref q] (fun U => va_at D vwC (sbO q vq n) U.heap ∧ EB aK aV D J z U)) (va_Qi (fun (x : Int32) (_ : Unit) => x = nI n) (fun _ _ => True) (fun _ => False)) 0 0 (fun _ => False) := by
  intro l D J z aK aV q vq n
  refine Met.ofW (cc := cJ4_length) (maxL := 1) (ret := some .int) (by decide) rfl ?_
  intro p e s m args below meth c s₁ B hml hv
  obtain ⟨rfl, ha, hE⟩ := hv
  have hts := atoms_spec (ws := ws_ yJ4_length cJ4_length 1 (some .int)) B.pre
  have hts : ∀ w ∈ lw_all, w.before _ s = true := fun w h => hts w (List.mem_cons_of_mem _ h)
  have hown : s.vm.findClass RJ4 = some m.cls := findClass_of_methodNamed B.named
  have hl := lv_entry [.ref q] (n := 1) (Nat.le_of_ble_eq_true rfl)
  rw [lg_entry_eq]
  generalize (lg_sl [.ref q] ++ List.replicate (1 - (lg_sl [.ref q]).length) Slot.unset).toArray = ls at hl ⊢
  have hl : lv_has ls 1 [(0, .ref q)] := hl
  have hx := B.exec
  have hb := B.bytes
  refine lv_aload_n hx hb dJ4_length_0 rfl (lv_at hl 0 rfl) ?_
  refine gget hx hb hts in_J5 hown hE.1.1 ha rfl 3 (by decide) q890 rfl dJ4_length_1 ?_
  exact W.iret B.exec B.bytes B.returns (fun t ht hW => ⟨⟨_, (), rfl, rfl, trivial⟩, (va_S.rf (A := fun _ => False) (H0 := s.heap)).F ht⟩) (fun _ h => nomatch h) dJ4_length_4 B.notSynchronized
set_option maxHeartbeats 4000000 in
theorem mJ5_length : ∀ (l : Launch) (D : va_G) (J : Nat → ClassId) (z : Nat) (aK aV : Nat → Nat) (q vq n : Nat), Met l yJ5_length (ws_ yJ5_length cJ5_length 1 (some .int)) ({ frames := 2, cells := 0, slots := 0, locals := 100 }) (va_Pc [.ref q] (fun U => va_at D vwC (sbO q vq n) U.heap ∧ EB aK aV D J z U)) (va_Qi (fun (x : Int32) (_ : Unit) => x = nI n) (fun _ _ => True) (fun _ => False)) 0 0 (fun _ => False) := by
  intro l D J z aK aV q vq n
  refine Met.ofW (cc := cJ5_length) (maxL := 1) (ret := some .int) (by decide) rfl ?_
  intro p e s m args below meth c s₁ B hml hv
  obtain ⟨rfl, ha, hE⟩ := hv
  have hts := atoms_spec (ws := ws_ yJ5_length cJ5_length 1 (some .int)) B.pre
  have hts : ∀ w ∈ lw_all, w.before _ s = true := fun w h => hts w (List.mem_cons_of_mem _ h)
  have hown : s.vm.findClass RJ5 = some m.cls := findClass_of_methodNamed B.named
  have hl := lv_entry [.ref q] (n := 1) (Nat.le_of_ble_eq_true rfl)
  rw [lg_entry_eq]
  generalize (lg_sl [.ref q] ++ List.replicate (1 - (lg_sl [.ref q]).length) Slot.unset).toArray = ls at hl ⊢
  have hl : lv_has ls 1 [(0, .ref q)] := hl
  have hx := B.exec
  have hb := B.bytes
  refine lv_aload_n hx hb dJ5_length_0 rfl (lv_at hl 0 rfl) ?_
  refine va_calli (va_runSU (As := []) (rest := []) (hE.1.1.1 15 _ rfl).2 ⟨hx, hb, hml, hown, hts⟩ (mJ4_length l D J z aK aV q vq n) (va_cwSU 0 hts (lw_SU q1011 q1007 q899 q1006 q145 q1012) rfl rfl rfl (by decide +kernel) ⟨Nat.le_of_ble_eq_true rfl, Nat.le_of_ble_eq_true rfl⟩) ⟨fun _ U g mk q => ⟨q.1, q.2.1, q.2.2.go (State.WarmedH.refl U) (fun _ _ _ => rfl)⟩, g_recv hE.1.1 ha rfl, fun U hU hW => ⟨rfl, by rw [hU]; exact ha, hE.go hW (fun _ _ _ => by rw [hU])⟩⟩ rfl rfl hl.1 rfl (lv_room (Nat.le_of_ble_eq_true rfl)) dJ5_length_1 ⟨Nat.le_of_ble_eq_true rfl, Nat.le_of_ble_eq_true rfl⟩) (va_S.rf (A := fun _ => False)) (fun _ _ h => h) (fun _ h => h) (fun r u t H1 locs1 ht hvm hp hB hz1 hk1 hS => ?_)
  exact W.iret B.exec B.bytes B.returns (fun t ht hW => ⟨⟨r, (), rfl, hp, trivial⟩, hS.F ht⟩) hS.2.2 dJ5_length_4 B.notSynchronized
set_option maxHeartbeats 4000000 in
theorem mJ4_newCapacity : ∀ (l : Launch) (D : va_G) (J : Nat → ClassId) (z : Nat) (aK aV : Nat → Nat) (q vq n cap : Nat) (f : Nat → Int32), cap < 2 ^ 20 → Met l yJ4_newCapacity (ws_ yJ4_newCapacity cJ4_newCapacity 6 (some .int)) ({ frames := 4, cells := 0, slots := 0, locals := 300 }) (va_Pc [.ref q, .int (nI (cap + 1))] (fun U => (va_at D vwC (sbO q vq n) U.heap ∧ va_at D vwC (byO J vq cap f) U.heap) ∧ EB aK aV D J z U)) (va_Qi (fun (x : Int32) (_ : Unit) => x = nI (2 * cap + 2)) (fun _ _ => True) (fun _ => False)) 0 0 (fun _ => False) := by
  intro l D J z aK aV q vq n cap f hcap
  refine Met.ofW (cc := cJ4_newCapacity) (maxL := 6) (ret := some .int) (by decide) rfl ?_
  intro p e s m args below meth c s₁ B hml hv
  obtain ⟨rfl, ⟨ha, hv⟩, hE⟩ := hv
  have hts := atoms_spec (ws := ws_ yJ4_newCapacity cJ4_newCapacity 6 (some .int)) B.pre
  have hts : ∀ w ∈ lw_all, w.before _ s = true := fun w h => hts w (List.mem_cons_of_mem _ h)
  have hown : s.vm.findClass RJ4 = some m.cls := findClass_of_methodNamed B.named
  have hl := lv_entry [.ref q, .int (nI (cap + 1))] (n := 6) (Nat.le_of_ble_eq_true rfl)
  rw [lg_entry_eq]
  generalize (lg_sl [.ref q, .int (nI (cap + 1))] ++ List.replicate (6 - (lg_sl [.ref q, .int (nI (cap + 1))]).length) Slot.unset).toArray = ls at hl ⊢
  have hl : lv_has ls 6 [(0, .ref q), (1, .int (nI (cap + 1)))] := hl
  have hx := B.exec
  have hb := B.bytes
  refine lv_aload_n hx hb dJ4_newCapacity_0 rfl (lv_at hl 0 rfl) ?_
  refine gget hx hb hts in_J5 hown hE.1.1 ha rfl 0 (by decide) q887 rfl dJ4_newCapacity_1 ?_
  refine va_alen (v := nI cap) hx hb hE.1.1 (va_P1 hv) 0 2 rfl rfl rfl dJ4_newCapacity_4 ?_
  refine lv_istore_n (lv' := [(2, .int (nI cap)), (0, .ref q), (1, .int (nI (cap + 1)))]) hx hb dJ4_newCapacity_5 rfl hl (by decide) rfl (fun ls hl => ?_)
  refine lv_iload_n hx hb dJ4_newCapacity_6 rfl (lv_at hl 2 rfl) ?_
  refine lv_aload_n hx hb dJ4_newCapacity_7 rfl (lv_at hl 1 rfl) ?_
  refine gget hx hb hts in_J5 hown hE.1.1 ha rfl 1 (by decide) q888 rfl dJ4_newCapacity_8 ?_
  refine lv_ishl hx hb dJ4_newCapacity_11 ?_
  rw [sb_shl0]
  refine lv_istore_n (lv' := [(3, .int (nI (cap + 1))), (2, .int (nI cap)), (0, .ref q), (1, .int (nI (cap + 1)))]) hx hb dJ4_newCapacity_12 rfl hl (by decide) rfl (fun ls hl => ?_)
  refine lv_iload_n hx hb dJ4_newCapacity_13 rfl (lv_at hl 0 rfl) ?_
  refine lv_iload_n hx hb dJ4_newCapacity_14 rfl (lv_at hl 1 rfl) ?_
  refine lv_isub hx hb dJ4_newCapacity_15 ?_
  rw [show nI (cap + 1) - nI cap = 1 from by rw [pk_sub (by omega), show cap + 1 - cap = 1 by omega]; rfl]
  refine lv_istore (lv' := [(4, .int (1 : Int32)), (3, .int (nI (cap + 1))), (2, .int (nI cap)), (0, .ref q), (1, .int (nI (cap + 1)))]) hx hb dJ4_newCapacity_16 hl (by decide) rfl (fun ls hl => ?_)
  refine lv_iload_n hx hb dJ4_newCapacity_18 rfl (lv_at hl 2 rfl) ?_
  refine lv_iload hx hb dJ4_newCapacity_19 (lv_at hl 0 rfl) ?_
  refine lv_iload_n hx hb dJ4_newCapacity_21 rfl (lv_at hl 2 rfl) ?_
  refine lv_iconst (v := (2 : Int32)) hx hb dJ4_newCapacity_22 (by decide) ?_
  refine lv_aload_n hx hb dJ4_newCapacity_23 rfl (lv_at hl 3 rfl) ?_
  refine gget hx hb hts in_J5 hown hE.1.1 ha rfl 1 (by decide) q888 rfl dJ4_newCapacity_24 ?_
  refine lv_ishl hx hb dJ4_newCapacity_27 ?_
  rw [sb_shl0]
  refine lv_iadd hx hb dJ4_newCapacity_28 ?_
  rw [show nI cap + 2 = nI (cap + 2) from nI_add cap 2]
  have hmx : mxI 1 (nI (cap + 2)) = nI (cap + 2) := by
    unfold mxI
    by_cases h : (1 : Int32) < nI (cap + 2)
    · rw [if_pos h]
    · exact absurd (nI_lt (a := 1) (b := cap + 2) (by omega) (by omega)) h
  have hsum : nI cap + mxI 1 (nI (cap + 2)) = nI (2 * cap + 2) := by
    rw [hmx, show nI cap + nI (cap + 2) = nI (cap + (cap + 2)) from nI_add _ _, show cap + (cap + 2) = 2 * cap + 2 by omega]
  have hr0 := mJ8_newLength (nI cap) 1 (nI (cap + 2)) (by rw [hsum]; exact nI_lt (a := 0) (by omega) (by omega)) (by rw [hsum]; exact nI_nlt (a := 2147483639) (by omega) (by omega))
  rw [hsum] at hr0
  refine tcallS (rest := []) hx hb hts hown hml hl.1 hr0 (va_cwS 3 hts (lw_S q915 q916 q149 q917) rfl rfl rfl (by decide +kernel) ⟨Nat.le_of_ble_eq_true rfl, Nat.le_of_ble_eq_true rfl⟩) ⟨Nat.le_of_ble_eq_true rfl, Nat.le_of_ble_eq_true rfl⟩ rfl rfl (lv_room (Nat.le_of_ble_eq_true rfl)) dJ4_newCapacity_29 ?_
  refine lv_istore (lv' := [(5, .int (nI (2 * cap + 2))), (4, .int (1 : Int32)), (3, .int (nI (cap + 1))), (2, .int (nI cap)), (0, .ref q), (1, .int (nI (cap + 1)))]) hx hb dJ4_newCapacity_32 hl (by decide) rfl (fun ls hl => ?_)
  refine lv_iload hx hb dJ4_newCapacity_34 (lv_at hl 0 rfl) ?_
  refine lv_ldc hx hb hown (hts _ q923) dJ4_newCapacity_36 ?_
  refine lv_icmp_ne (tgt := 51) hx hb dJ4_newCapacity_38 (by decide) (fun _ => ?_) (fun hc => absurd (nI_inj (j := 2147483647) (by omega) (by omega) hc) (by omega))
  refine lv_iload hx hb dJ4_newCapacity_51 (lv_at hl 0 rfl) ?_
  refine lv_aload_n hx hb dJ4_newCapacity_53 rfl (lv_at hl 4 rfl) ?_
  refine gget hx hb hts in_J5 hown hE.1.1 ha rfl 1 (by decide) q888 rfl dJ4_newCapacity_54 ?_
  refine lv_ishr hx hb dJ4_newCapacity_57 ?_
  rw [sb_shr0]
  exact W.iret B.exec B.bytes B.returns (fun t ht hW => ⟨⟨_, (), rfl, rfl, trivial⟩, (va_S.rf (A := fun _ => False) (H0 := s.heap)).F ht⟩) (fun _ h => nomatch h) dJ4_newCapacity_58 B.notSynchronized
set_option maxHeartbeats 4000000 in
theorem mJ0_copyOf : ∀ (l : Launch) (D : va_G) (J : Nat → ClassId) (z : Nat) (aK aV : Nat → Nat) (v n M N : Nat) (f : Nat → Int32), n < M → M < 2 ^ 22 → (∀ j, fits .byte (.int (f j)) = true) → Met l yJ0_copyOf (ws_ yJ0_copyOf cJ0_copyOf 3 (some (.array .byte))) ({ frames := 2, cells := 1, slots := M, locals := 100 }) (va_Pc [.ref v, .int (nI M)] (fun U => (U.heap.size = N ∧ va_at D vwC (byO J v n f) U.heap) ∧ EB aK aV D J z U)) (va_Qr (fun (_ : Unit) => True) (fun _ x t => x = N ∧ va_at D vwC (byO J N M (va_cpy f (fun _ => 0) 0 0 n)) t.heap) (fun q => N ≤ q)) 1 M (fun q => N ≤ q) := by
  intro l D J z aK aV v n M N f hnM hM hfit
  refine Met.ofW (cc := cJ0_copyOf) (maxL := 3) (ret := some (.array .byte)) (by decide) rfl ?_
  intro p e s m args below meth c s₁ B hml hv
  obtain ⟨rfl, ⟨hN, ha⟩, hE⟩ := hv
  have hts := atoms_spec (ws := ws_ yJ0_copyOf cJ0_copyOf 3 (some (.array .byte))) B.pre
  have hts : ∀ w ∈ lw_all, w.before _ s = true := fun w h => hts w (List.mem_cons_of_mem _ h)
  have hown : s.vm.findClass RJ0 = some m.cls := findClass_of_methodNamed B.named
  have hl := lv_entry [.ref v, .int (nI M)] (n := 3) (Nat.le_of_ble_eq_true rfl)
  rw [lg_entry_eq]
  generalize (lg_sl [.ref v, .int (nI M)] ++ List.replicate (3 - (lg_sl [.ref v, .int (nI M)]).length) Slot.unset).toArray = ls at hl ⊢
  have hl : lv_has ls 3 [(0, .ref v), (1, .int (nI M))] := hl
  have hx := B.exec
  have hb := B.bytes
  refine lv_iload_n hx hb dJ0_copyOf_0 rfl (lv_at hl 1 rfl) ?_
  refine lv_aload_n hx hb dJ0_copyOf_1 rfl (lv_at hl 0 rfl) ?_
  refine va_alen (v := nI n) hx hb hE.1.1 (va_P1 ha) 0 2 rfl rfl rfl dJ0_copyOf_2 ?_
  refine lv_icmp_ne (tgt := 14) hx hb dJ0_copyOf_3 (by decide) (fun _ => ?_) (fun hc => absurd (nI_inj (by omega) (by omega) hc) (by omega))
  refine lv_iload_n hx hb dJ0_copyOf_14 rfl (lv_at hl 1 rfl) ?_
  refine gnewa (D := D) (cl := vwC) (atype := .byte) (ty := .byte) (cA := J 2) (a0 := (M, .inl (fun _ => 0))) (N' := M) (h := N) hx hb hts q352 rfl (hE.1.1.2 2 _ rfl).2 (fun _ => rfl) (nI_pos (by omega)) (nI_clamp (by omega)) (by show M * 1 ≤ 536870912; omega) hN (Nat.le_of_ble_eq_true rfl) (by show 0 + M ≤ M; omega) dJ0_copyOf_15 (fun H h1 h2 h3 => ?_)
  have hlt := ha.lt
  replace ha := ha.kept (h3 v (by rw [hN] at hlt; exact hlt))
  refine lv_astore_n (lv' := [(2, .ref N), (0, .ref v), (1, .int (nI M))]) hx hb dJ0_copyOf_17 rfl hl (by decide) rfl (fun ls hl => ?_)
  refine lv_aload_n hx hb dJ0_copyOf_18 rfl (lv_at hl 1 rfl) ?_
  refine lv_iconst (v := (0 : Int32)) hx hb dJ0_copyOf_19 (by decide) ?_
  refine lv_aload_n hx hb dJ0_copyOf_20 rfl (lv_at hl 0 rfl) ?_
  refine lv_iconst (v := (0 : Int32)) hx hb dJ0_copyOf_21 (by decide) ?_
  refine lv_aload_n hx hb dJ0_copyOf_22 rfl (lv_at hl 1 rfl) ?_
  refine va_alen (v := nI n) hx hb hE.1.1 (va_P1 ha) 0 2 rfl rfl rfl dJ0_copyOf_23 ?_
  refine lv_iload_n hx hb dJ0_copyOf_24 rfl (lv_at hl 2 rfl) ?_
  refine va_mmin hx hb (hml.trans hl.1.symm) hown (hts _ q934) (hts _ q682) (hts _ q150) (hts _ q683) (Nat.le_of_ble_eq_true rfl) (Nat.le_of_ble_eq_true rfl) (Nat.le_of_ble_eq_true rfl) (by show 0 + M ≤ M; omega) dJ0_copyOf_25 ?_
  rw [if_neg (nI_nlt (by omega) (by omega))]
  refine gcopy (rest := []) (f := f) hx hb (hml.trans hl.1.symm) hts hown hE.1.1 2 q935 ha h1 rfl rfl ⟨by decide, by decide, nI_pos (by omega), by rw [nI_clamp (by omega)]; exact Nat.le_of_eq (Nat.zero_add _), by rw [nI_clamp (by omega)]; show 0 + n ≤ M; omega⟩ (fun i _ => hfit _) (Nat.le_of_ble_eq_true rfl) (Nat.le_of_ble_eq_true rfl) dJ0_copyOf_28 (fun H1 locs1 h4 h5 h6 h7 => ?_)
  rw [nI_clamp (by omega)] at h4
  have hS : va_S (fun q => N ≤ q) s.heap H1 locs1 := ⟨by rw [h5, h2]; omega, fun q g1 g2 => (h6 q (by omega)).trans (h3 q (by omega)), fun l g => by
    rcases h7 l g with g | g
    · cases g
    · rw [g]; exact Nat.le_refl _⟩
  refine lv_aload_n hx hb dJ0_copyOf_31 rfl (lv_at hl 0 rfl) ?_
  exact W.widen (k := 1) (n := M) (by omega) (by show 0 + M ≤ M; omega) (W.aret hx hb B.returns (Or.inr ⟨_, rfl⟩) (Or.inr ⟨N, rfl⟩) (fun t ht hW => ⟨⟨(), N, rfl, trivial, rfl, by show va_at D vwC _ t.heap; rw [ht]; exact h4⟩, hS.F ht⟩) hS.2.2 dJ0_copyOf_32 B.notSynchronized)
