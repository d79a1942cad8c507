set_option maxRecDepth 100000
abbrev cJ12_init_3 : ByteArray := prog_44_method_5_code
def yJ12_init_3 : MethodName := ⟨RJ12, "<init>", "(Ljava/lang/String;Ljava/lang/Throwable;ZZ)V"⟩
def dkwJ12_init_3_2 : List UInt8 := [44, 181, 0, 7, 29, 154, 0, 8, 42, 1, 181, 0, 24, 177]
abbrev dktJ12_init_3_2 : List UInt8 := dkwJ12_init_3_2 ++ []
def dkwJ12_init_3_1 : List UInt8 := [21, 4, 153, 0, 11, 42, 182, 0, 27, 87, 167, 0, 8, 42, 1, 181, 0, 17, 42, 43, 181, 0, 31, 42]
abbrev dktJ12_init_3_1 : List UInt8 := dkwJ12_init_3_1 ++ dktJ12_init_3_2
def dkwJ12_init_3_0 : List UInt8 := [42, 183, 0, 1, 42, 42, 181, 0, 7, 42, 178, 0, 13, 181, 0, 17, 42, 178, 0, 20, 181, 0, 24]
abbrev dktJ12_init_3_0 : List UInt8 := dkwJ12_init_3_0 ++ dktJ12_init_3_1
theorem dksJ12_init_3_0 : cJ12_init_3.data.toList.drop 0 = dktJ12_init_3_0 := by decide +kernel
theorem dksJ12_init_3_1 : cJ12_init_3.data.toList.drop 23 = dktJ12_init_3_1 := dk_seg dksJ12_init_3_0 23 rfl rfl
theorem dksJ12_init_3_2 : cJ12_init_3.data.toList.drop 47 = dktJ12_init_3_2 := dk_seg dksJ12_init_3_1 24 rfl rfl
theorem dJ12_init_3_0 : decode cJ12_init_3 0 = .ok (.aload_n 0, 1) := dk_42 (dk_at dksJ12_init_3_0 0 rfl rfl)
theorem dJ12_init_3_1 : decode cJ12_init_3 1 = .ok (.invokespecial 1, 3) := dk_183 0 1 (dk_at dksJ12_init_3_0 1 rfl rfl)
theorem dJ12_init_3_4 : decode cJ12_init_3 4 = .ok (.aload_n 0, 1) := dk_42 (dk_at dksJ12_init_3_0 4 rfl rfl)
theorem dJ12_init_3_5 : decode cJ12_init_3 5 = .ok (.aload_n 0, 1) := dk_42 (dk_at dksJ12_init_3_0 5 rfl rfl)
theorem dJ12_init_3_6 : decode cJ12_init_3 6 = .ok (.putfield 7, 3) := dk_181 0 7 (dk_at dksJ12_init_3_0 6 rfl rfl)
theorem dJ12_init_3_9 : decode cJ12_init_3 9 = .ok (.aload_n 0, 1) := dk_42 (dk_at dksJ12_init_3_0 9 rfl rfl)
theorem dJ12_init_3_10 : decode cJ12_init_3 10 = .ok (.getstatic 13, 3) := dk_178 0 13 (dk_at dksJ12_init_3_0 10 rfl rfl)
theorem dJ12_init_3_13 : decode cJ12_init_3 13 = .ok (.putfield 17, 3) := dk_181 0 17 (dk_at dksJ12_init_3_0 13 rfl rfl)
theorem dJ12_init_3_16 : decode cJ12_init_3 16 = .ok (.aload_n 0, 1) := dk_42 (dk_at dksJ12_init_3_0 16 rfl rfl)
theorem dJ12_init_3_17 : decode cJ12_init_3 17 = .ok (.getstatic 20, 3) := dk_178 0 20 (dk_at dksJ12_init_3_0 17 rfl rfl)
theorem dJ12_init_3_20 : decode cJ12_init_3 20 = .ok (.putfield 24, 3) := dk_181 0 24 (dk_at dksJ12_init_3_0 20 rfl rfl)
theorem dJ12_init_3_23 : decode cJ12_init_3 23 = .ok (.iload 4, 2) := dk_21 4 (dk_at dksJ12_init_3_1 0 rfl rfl)
theorem dJ12_init_3_25 : decode cJ12_init_3 25 = .ok (.ifCond .eq 11, 3) := dk_153 0 11 (dk_at dksJ12_init_3_1 2 rfl rfl)
theorem dJ12_init_3_28 : decode cJ12_init_3 28 = .ok (.aload_n 0, 1) := dk_42 (dk_at dksJ12_init_3_1 5 rfl rfl)
theorem dJ12_init_3_29 : decode cJ12_init_3 29 = .ok (.invokevirtual 27, 3) := dk_182 0 27 (dk_at dksJ12_init_3_1 6 rfl rfl)
theorem dJ12_init_3_32 : decode cJ12_init_3 32 = .ok (.pop, 1) := dk_87 (dk_at dksJ12_init_3_1 9 rfl rfl)
theorem dJ12_init_3_33 : decode cJ12_init_3 33 = .ok (.goto 8, 3) := dk_167 0 8 (dk_at dksJ12_init_3_1 10 rfl rfl)
theorem dJ12_init_3_36 : decode cJ12_init_3 36 = .ok (.aload_n 0, 1) := dk_42 (dk_at dksJ12_init_3_1 13 rfl rfl)
theorem dJ12_init_3_37 : decode cJ12_init_3 37 = .ok (.aconst_null, 1) := dk_1 (dk_at dksJ12_init_3_1 14 rfl rfl)
theorem dJ12_init_3_38 : decode cJ12_init_3 38 = .ok (.putfield 17, 3) := dk_181 0 17 (dk_at dksJ12_init_3_1 15 rfl rfl)
theorem dJ12_init_3_41 : decode cJ12_init_3 41 = .ok (.aload_n 0, 1) := dk_42 (dk_at dksJ12_init_3_1 18 rfl rfl)
theorem dJ12_init_3_42 : decode cJ12_init_3 42 = .ok (.aload_n 1, 1) := dk_43 (dk_at dksJ12_init_3_1 19 rfl rfl)
theorem dJ12_init_3_43 : decode cJ12_init_3 43 = .ok (.putfield 31, 3) := dk_181 0 31 (dk_at dksJ12_init_3_1 20 rfl rfl)
theorem dJ12_init_3_46 : decode cJ12_init_3 46 = .ok (.aload_n 0, 1) := dk_42 (dk_at dksJ12_init_3_1 23 rfl rfl)
theorem dJ12_init_3_47 : decode cJ12_init_3 47 = .ok (.aload_n 2, 1) := dk_44 (dk_at dksJ12_init_3_2 0 rfl rfl)
theorem dJ12_init_3_48 : decode cJ12_init_3 48 = .ok (.putfield 7, 3) := dk_181 0 7 (dk_at dksJ12_init_3_2 1 rfl rfl)
theorem dJ12_init_3_51 : decode cJ12_init_3 51 = .ok (.iload_n 3, 1) := dk_29 (dk_at dksJ12_init_3_2 4 rfl rfl)
theorem dJ12_init_3_52 : decode cJ12_init_3 52 = .ok (.ifCond .ne 8, 3) := dk_154 0 8 (dk_at dksJ12_init_3_2 5 rfl rfl)
theorem dJ12_init_3_55 : decode cJ12_init_3 55 = .ok (.aload_n 0, 1) := dk_42 (dk_at dksJ12_init_3_2 8 rfl rfl)
theorem dJ12_init_3_56 : decode cJ12_init_3 56 = .ok (.aconst_null, 1) := dk_1 (dk_at dksJ12_init_3_2 9 rfl rfl)
theorem dJ12_init_3_57 : decode cJ12_init_3 57 = .ok (.putfield 24, 3) := dk_181 0 24 (dk_at dksJ12_init_3_2 10 rfl rfl)
theorem dJ12_init_3_60 : decode cJ12_init_3 60 = .ok (.return_, 1) := dk_177 (dk_at dksJ12_init_3_2 13 rfl rfl)
abbrev cJ13_init_2 : ByteArray := prog_29_method_5_code
def yJ13_init_2 : MethodName := ⟨RJ13, "<init>", "(Ljava/lang/String;Ljava/lang/Throwable;ZZ)V"⟩
def dkwJ13_init_2_0 : List UInt8 := [42, 43, 44, 29, 21, 4, 183, 0, 16, 177]
abbrev dktJ13_init_2_0 : List UInt8 := dkwJ13_init_2_0 ++ []
theorem dksJ13_init_2_0 : cJ13_init_2.data.toList.drop 0 = dktJ13_init_2_0 := by decide +kernel
theorem dJ13_init_2_0 : decode cJ13_init_2 0 = .ok (.aload_n 0, 1) := dk_42 (dk_at dksJ13_init_2_0 0 rfl rfl)
theorem dJ13_init_2_1 : decode cJ13_init_2 1 = .ok (.aload_n 1, 1) := dk_43 (dk_at dksJ13_init_2_0 1 rfl rfl)
theorem dJ13_init_2_2 : decode cJ13_init_2 2 = .ok (.aload_n 2, 1) := dk_44 (dk_at dksJ13_init_2_0 2 rfl rfl)
theorem dJ13_init_2_3 : decode cJ13_init_2 3 = .ok (.iload_n 3, 1) := dk_29 (dk_at dksJ13_init_2_0 3 rfl rfl)
theorem dJ13_init_2_4 : decode cJ13_init_2 4 = .ok (.iload 4, 2) := dk_21 4 (dk_at dksJ13_init_2_0 4 rfl rfl)
theorem dJ13_init_2_6 : decode cJ13_init_2 6 = .ok (.invokespecial 16, 3) := dk_183 0 16 (dk_at dksJ13_init_2_0 6 rfl rfl)
theorem dJ13_init_2_9 : decode cJ13_init_2 9 = .ok (.return_, 1) := dk_177 (dk_at dksJ13_init_2_0 9 rfl rfl)

/-- a class list of its own for the one exception that the parser throws -/
abbrev clW : List vw_C := [(RX8, TX8, 6)]
abbrev wrO (a : Nat) : Nat × va_E := (a, .inr (0, [.null, .null, .null, .null, .null, .int 0]))
def WrE (D8 : va_G) (z : Nat) (U : State) : Prop := va_K D8 clW [] U ∧ ThrE z U
theorem WrE.go {D8 : va_G} {z : Nat} {s U : State} (h : WrE D8 z s) (hW : s.WarmedH U.vm) (hq : ∀ q : Nat, q < s.heap.size → ¬ z ≤ q → U.heap[q]? = s.heap[q]?) : WrE D8 z U := ⟨va_K.moved hW.alike h.1, h.2.go hW hq⟩
set_option maxHeartbeats 4000000 in
theorem mJ12_init_3 : ∀ (l : Launch) (D8 : va_G) (z a : Nat), z ≤ a →  Met l yJ12_init_3 (ws_ yJ12_init_3 cJ12_init_3 5 none) ({ frames := 1, cells := 0, slots := 0, locals := 40 }) (va_Pc [.ref a, .null, .null, .int 0, .int 0] (fun U => va_at D8 clW (wrO a) U.heap ∧ WrE D8 z U)) (va_Qv (fun (_ : Unit) => True) (fun _ t => va_at D8 clW (wrO a) t.heap) (fun x => x = a)) 0 0 (fun x => x = a) := by
  intro l D8 z a hz
  refine Met.ofW (cc := cJ12_init_3) (maxL := 5) (ret := none) (by decide) rfl ?_
  intro p e s m args below meth c s₁ B hml hv
  obtain ⟨rfl, ha, hE⟩ := hv
  have hts := atoms_spec (ws := ws_ yJ12_init_3 cJ12_init_3 5 (none)) B.pre
  have hts : ∀ w ∈ lw_all, w.before _ s = true := fun w h => hts w (List.mem_cons_of_mem _ h)
  have hown : s.vm.findClass RJ12 = some m.cls := findClass_of_methodNamed B.named
  have hl := lv_entry [.ref a, .null, .null, .int 0, .int 0] (n := 5) (Nat.le_of_ble_eq_true rfl)
  rw [lg_entry_eq]
  generalize (lg_sl [.ref a, .null, .null, .int 0, .int 0] ++ List.replicate (5 - (lg_sl [.ref a, .null, .null, .int 0, .int 0]).length) Slot.unset).toArray = ls at hl ⊢
  have hl : lv_has ls 5 [(0, .ref a), (1, .null), (2, .null), (3, .int (0 : Int32)), (4, .int (0 : Int32))] := hl
  have hx := B.exec
  have hb := B.bytes
  refine lv_aload_n hx hb dJ12_init_3_0 rfl (lv_at hl 0 rfl) ?_
  refine W.objInit hx hb hown (hts _ q1048) (hts _ q183) (hts _ q184) rfl (by rw [hml]; exact hl.1) rfl dJ12_init_3_1 (Nat.le_of_ble_eq_true rfl) (Nat.le_of_ble_eq_true rfl) ?_
  refine W.eq (g2 := F0 m 4 ls []) rfl ?_
  have hS : va_S (fun x => x = a) s.heap s.heap [] := va_S.rf
  have hSz : ∀ (H : Heap) (locs : List Loc), va_S (fun x => x = a) s.heap H locs → va_S (zZ z) s.heap H locs := fun H locs h => ⟨h.1, fun q h1 h2 => h.2.1 q h1 (fun e => h2 (by rw [show q = a from e]; exact hz)), fun l hl => by rw [show zZ z l.base = (z ≤ l.base) from rfl, show l.base = a from h.2.2 l hl]; exact hz⟩
  obtain ⟨v1, hv1, n1, f1⟩ : ∃ v : Value, va_Z Bundle.tN "UNASSIGNED_STACK" Bundle.steD v (zZ z) s s.heap ∧ narrow (tyX8 1) v = v ∧ fits (tyX8 1) v = true := by
    rcases hE.2.2.2.1.1 with h | ⟨t, h⟩
    · exact ⟨_, h, rfl, rfl⟩
    · exact ⟨_, h, rfl, rfl⟩
  obtain ⟨v2, hv2, n2, f2⟩ : ∃ v : Value, va_Z Bundle.tN "SUPPRESSED_SENTINEL" Bundle.listD v (zZ z) s s.heap ∧ narrow (tyX8 2) v = v ∧ fits (tyX8 2) v = true := by
    rcases hE.2.2.2.2.1 with h | ⟨t, h⟩
    · exact ⟨_, h, rfl, rfl⟩
    · exact ⟨_, h, rfl, rfl⟩
  refine lv_aload_n hx hb dJ12_init_3_4 rfl (lv_at hl 0 rfl) ?_
  refine lv_aload_n hx hb dJ12_init_3_5 rfl (lv_at hl 0 rfl) ?_
  refine gput hx hb hts in_X8 tyX8 tyX8_ok nmX8 hown hE.1 ha rfl 0 (by decide) q1158 rfl rfl rfl (Nat.le_of_ble_eq_true rfl) dJ12_init_3_6 (fun H locs h4 h5 h6 h7 => ?_)
  replace hS := va_S.one hS rfl h5 h6 h7
  replace ha := h4
  clear h4 h5 h6 h7
  refine lv_aload_n hx hb dJ12_init_3_9 rfl (lv_at hl 0 rfl) ?_
  refine va_gets (A := zZ z) hx hb hv1 (hSz _ _ hS) hown (hts _ q1049) (fun _ h => h) dJ12_init_3_10 ?_
  refine gput hx hb hts in_X8 tyX8 tyX8_ok nmX8 hown hE.1 ha rfl 1 (by decide) q1159 rfl n1 f1 (Nat.le_of_ble_eq_true rfl) dJ12_init_3_13 (fun H locs h4 h5 h6 h7 => ?_)
  replace hS := va_S.one hS rfl h5 h6 h7
  replace ha := h4
  clear h4 h5 h6 h7
  refine lv_aload_n hx hb dJ12_init_3_16 rfl (lv_at hl 0 rfl) ?_
  refine va_gets (A := zZ z) hx hb hv2 (hSz _ _ hS) hown (hts _ q1051) (fun _ h => h) dJ12_init_3_17 ?_
  refine gput hx hb hts in_X8 tyX8 tyX8_ok nmX8 hown hE.1 ha rfl 2 (by decide) q1160 rfl n2 f2 (Nat.le_of_ble_eq_true rfl) dJ12_init_3_20 (fun H locs h4 h5 h6 h7 => ?_)
  replace hS := va_S.one hS rfl h5 h6 h7
  replace ha := h4
  clear h4 h5 h6 h7
  refine lv_iload hx hb dJ12_init_3_23 (lv_at hl 4 rfl) ?_
  refine lv_if_eq (tgt := 36) hx hb dJ12_init_3_25 (by decide) (fun _ => ?_) (fun hc => absurd rfl hc)
  refine lv_aload_n hx hb dJ12_init_3_36 rfl (lv_at hl 0 rfl) ?_
  refine lv_null hx hb dJ12_init_3_37 ?_
  refine gput hx hb hts in_X8 tyX8 tyX8_ok nmX8 hown hE.1 ha rfl 1 (by decide) q1159 rfl rfl rfl (Nat.le_of_ble_eq_true rfl) dJ12_init_3_38 (fun H locs h4 h5 h6 h7 => ?_)
  replace hS := va_S.one hS rfl h5 h6 h7
  replace ha := h4
  clear h4 h5 h6 h7
  refine lv_aload_n hx hb dJ12_init_3_41 rfl (lv_at hl 0 rfl) ?_
  refine lv_aload_nN hx hb dJ12_init_3_42 rfl (lv_at hl 1 rfl) ?_
  refine gput hx hb hts in_X8 tyX8 tyX8_ok nmX8 hown hE.1 ha rfl 3 (by decide) q1157 rfl rfl rfl (Nat.le_of_ble_eq_true rfl) dJ12_init_3_43 (fun H locs h4 h5 h6 h7 => ?_)
  replace hS := va_S.one hS rfl h5 h6 h7
  replace ha := h4
  clear h4 h5 h6 h7
  refine lv_aload_n hx hb dJ12_init_3_46 rfl (lv_at hl 0 rfl) ?_
  refine lv_aload_nN hx hb dJ12_init_3_47 rfl (lv_at hl 2 rfl) ?_
  refine gput hx hb hts in_X8 tyX8 tyX8_ok nmX8 hown hE.1 ha rfl 0 (by decide) q1158 rfl rfl rfl (Nat.le_of_ble_eq_true rfl) dJ12_init_3_48 (fun H locs h4 h5 h6 h7 => ?_)
  replace hS := va_S.one hS rfl h5 h6 h7
  replace ha := h4
  clear h4 h5 h6 h7
  refine lv_iload_n hx hb dJ12_init_3_51 rfl (lv_at hl 3 rfl) ?_
  refine lv_if_ne (tgt := 60) hx hb dJ12_init_3_52 (by decide) (fun hc => absurd rfl hc) (fun _ => ?_)
  refine lv_aload_n hx hb dJ12_init_3_55 rfl (lv_at hl 0 rfl) ?_
  refine lv_null hx hb dJ12_init_3_56 ?_
  refine gput hx hb hts in_X8 tyX8 tyX8_ok nmX8 hown hE.1 ha rfl 2 (by decide) q1160 rfl rfl rfl (Nat.le_of_ble_eq_true rfl) dJ12_init_3_57 (fun H locs h4 h5 h6 h7 => ?_)
  replace hS := va_S.one hS rfl h5 h6 h7
  replace ha := h4
  clear h4 h5 h6 h7
  exact W.vret hx hb B.returns (fun t ht hW => ⟨⟨(), rfl, trivial, by show va_at D8 clW _ t.heap; rw [ht]; exact ha⟩, hS.F ht⟩) hS.2.2 dJ12_init_3_60 B.notSynchronized
set_option maxHeartbeats 4000000 in
theorem mJ13_init_2 : ∀ (l : Launch) (D8 : va_G) (z a : Nat), z ≤ a →  Met l yJ13_init_2 (ws_ yJ13_init_2 cJ13_init_2 5 none) ({ frames := 2, cells := 0, slots := 0, locals := 100 }) (va_Pc [.ref a, .null, .null, .int 0, .int 0] (fun U => va_at D8 clW (wrO a) U.heap ∧ WrE D8 z U)) (va_Qv (fun (_ : Unit) => True) (fun _ t => va_at D8 clW (wrO a) t.heap) (fun x => x = a)) 0 0 (fun x => x = a) := by
  intro l D8 z a hz
  refine Met.ofW (cc := cJ13_init_2) (maxL := 5) (ret := none) (by decide) rfl ?_
  intro p e s m args below meth c s₁ B hml hv
  obtain ⟨rfl, ha, hE⟩ := hv
  have hts := atoms_spec (ws := ws_ yJ13_init_2 cJ13_init_2 5 (none)) B.pre
  have hts : ∀ w ∈ lw_all, w.before _ s = true := fun w h => hts w (List.mem_cons_of_mem _ h)
  have hown : s.vm.findClass RJ13 = some m.cls := findClass_of_methodNamed B.named
  have hl := lv_entry [.ref a, .null, .null, .int 0, .int 0] (n := 5) (Nat.le_of_ble_eq_true rfl)
  rw [lg_entry_eq]
  generalize (lg_sl [.ref a, .null, .null, .int 0, .int 0] ++ List.replicate (5 - (lg_sl [.ref a, .null, .null, .int 0, .int 0]).length) Slot.unset).toArray = ls at hl ⊢
  have hl : lv_has ls 5 [(0, .ref a), (1, .null), (2, .null), (3, .int (0 : Int32)), (4, .int (0 : Int32))] := hl
  have hx := B.exec
  have hb := B.bytes
  refine lv_aload_n hx hb dJ13_init_2_0 rfl (lv_at hl 0 rfl) ?_
  refine lv_aload_nN hx hb dJ13_init_2_1 rfl (lv_at hl 1 rfl) ?_
  refine lv_aload_nN hx hb dJ13_init_2_2 rfl (lv_at hl 2 rfl) ?_
  refine lv_iload_n hx hb dJ13_init_2_3 rfl (lv_at hl 3 rfl) ?_
  refine lv_iload hx hb dJ13_init_2_4 (lv_at hl 4 rfl) ?_
  refine va_callv (va_runI (As := [.null, .null, .int 0, .int 0]) (rest := []) ⟨hx, hb, hml, hown, hts⟩ (mJ12_init_3 l D8 z a hz) (cwI 4 hts (lw_meth q1216) rfl rfl rfl (hts _ q153) (hts _ q1214) (hts _ q1215) rfl (by decide +kernel) ⟨Nat.le_of_ble_eq_true rfl, Nat.le_of_ble_eq_true rfl⟩) ⟨fun _ U g mk q => ⟨q.1, q.2.1, q.2.2.go (State.WarmedH.refl U) (fun _ _ _ => rfl)⟩, fun U hU hW => ⟨rfl, by rw [hU]; exact ha, hE.go hW (fun _ _ _ => by rw [hU])⟩⟩ rfl rfl hl.1 rfl (lv_room (Nat.le_of_ble_eq_true rfl)) dJ13_init_2_6 ⟨Nat.le_of_ble_eq_true rfl, Nat.le_of_ble_eq_true rfl⟩) (va_S.rf (A := (fun x => x = a))) (fun _ _ h => h) (fun _ h => h) (fun u t H1 locs1 ht hvm hp hB hz1 hk1 hS => ?_)
  rw [ht] at hB
  exact W.vret hx hb B.returns (fun t ht hW => ⟨⟨(), rfl, trivial, by show va_at D8 clW _ t.heap; rw [ht]; exact hB⟩, hS.F ht⟩) hS.2.2 dJ13_init_2_9 B.notSynchronized
set_option maxHeartbeats 4000000 in
theorem mX8_init : ∀ (l : Launch) (D8 : va_G) (z a : Nat), z ≤ a →  Met l yX8_init (ws_ yX8_init cX8_init 1 none) ({ frames := 3, cells := 0, slots := 0, locals := 200 }) (va_Pc [.ref a] (fun U => va_at D8 clW (wrO a) U.heap ∧ WrE D8 z U)) (va_Qv (fun (_ : Unit) => True) (fun _ t => va_at D8 clW (wrO a) t.heap) (fun x => x = a)) 0 0 (fun x => x = a) := by
  intro l D8 z a hz
  refine Met.ofW (cc := cX8_init) (maxL := 1) (ret := none) (by decide) rfl ?_
  intro p e s m args below meth c s₁ B hml hv
  obtain ⟨rfl, ha, hE⟩ := hv
  have hts := atoms_spec (ws := ws_ yX8_init cX8_init 1 (none)) B.pre
  have hts : ∀ w ∈ lw_all, w.before _ s = true := fun w h => hts w (List.mem_cons_of_mem _ h)
  have hown : s.vm.findClass RX8 = some m.cls := findClass_of_methodNamed B.named
  have hl := lv_entry [.ref a] (n := 1) (Nat.le_of_ble_eq_true rfl)
  rw [lg_entry_eq]
  generalize (lg_sl [.ref a] ++ List.replicate (1 - (lg_sl [.ref a]).length) Slot.unset).toArray = ls at hl ⊢
  have hl : lv_has ls 1 [(0, .ref a)] := hl
  have hx := B.exec
  have hb := B.bytes
  refine lv_aload_n hx hb dX8_init_0 rfl (lv_at hl 0 rfl) ?_
  refine lv_null hx hb dX8_init_1 ?_
  refine lv_null hx hb dX8_init_2 ?_
  refine lv_iconst (v := (0 : Int32)) hx hb dX8_init_3 (by decide) ?_
  refine lv_iconst (v := (0 : Int32)) hx hb dX8_init_4 (by decide) ?_
  refine va_callv (va_runI (As := [.null, .null, .int 0, .int 0]) (rest := []) ⟨hx, hb, hml, hown, hts⟩ (mJ13_init_2 l D8 z a hz) (cwI 4 hts (lw_meth q1213) rfl rfl rfl (hts _ q154) (hts _ q1211) (hts _ q1212) rfl (by decide +kernel) ⟨Nat.le_of_ble_eq_true rfl, Nat.le_of_ble_eq_true rfl⟩) ⟨fun _ U g mk q => ⟨q.1, q.2.1, q.2.2.go (State.WarmedH.refl U) (fun _ _ _ => rfl)⟩, fun U hU hW => ⟨rfl, by rw [hU]; exact ha, hE.go hW (fun _ _ _ => by rw [hU])⟩⟩ rfl rfl hl.1 rfl (lv_room (Nat.le_of_ble_eq_true rfl)) dX8_init_5 ⟨Nat.le_of_ble_eq_true rfl, Nat.le_of_ble_eq_true rfl⟩) (va_S.rf (A := (fun x => x = a))) (fun _ _ h => h) (fun _ h => h) (fun u t H1 locs1 ht hvm hp hB hz1 hk1 hS => ?_)
  rw [ht] at hB
  exact W.vret hx hb B.returns (fun t ht hW => ⟨⟨(), rfl, trivial, by show va_at D8 clW _ t.heap; rw [ht]; exact hB⟩, hS.F ht⟩) hS.2.2 dX8_init_8 B.notSynchronized
set_option maxHeartbeats 4000000 in
theorem mX3_wrong : ∀ (l : Launch) (D8 : va_G) (z b N : Nat), z ≤ N → Met l yX3_wrong (ws_ yX3_wrong cX3_wrong 1 (some (.object "LateInks$Wrong"))) ({ frames := 4, cells := 1, slots := 6, locals := 300 }) (va_Pc [.ref b] (fun U => U.heap.size = N ∧ WrE D8 z U)) (va_Qr (fun (_ : Unit) => True) (fun _ x t => x = N ∧ va_at D8 clW (wrO N) t.heap) (fun x => N ≤ x)) 1 6 (fun x => N ≤ x) := by
  intro l D8 z b N hz
  refine Met.ofW (cc := cX3_wrong) (maxL := 1) (ret := some (.object "LateInks$Wrong")) (by decide) rfl ?_
  intro p e s m args below meth c s₁ B hml hv
  obtain ⟨rfl, hN, hE⟩ := hv
  have hts := atoms_spec (ws := ws_ yX3_wrong cX3_wrong 1 (some (.object "LateInks$Wrong"))) B.pre
  have hts : ∀ w ∈ lw_all, w.before _ s = true := fun w h => hts w (List.mem_cons_of_mem _ h)
  have hown : s.vm.findClass RX3 = some m.cls := findClass_of_methodNamed B.named
  have hl := lv_entry [.ref b] (n := 1) (Nat.le_of_ble_eq_true rfl)
  rw [lg_entry_eq]
  generalize (lg_sl [.ref b] ++ List.replicate (1 - (lg_sl [.ref b]).length) Slot.unset).toArray = ls at hl ⊢
  have hl : lv_has ls 1 [(0, .ref b)] := hl
  have hx := B.exec
  have hb := B.bytes
  refine gnew (C := RX8) (T := TX8) (N := 6) (ci := 0) (fs := [.null, .null, .null, .null, .null, .int 0]) (h := N) hx hb hts in_X8 tyX8 tyX8_ok hown q1199 q1200 q159 hE.1 rfl (fun j hj => match j, hj with
    | 0, _ => rfl
    | 1, _ => rfl
    | 2, _ => rfl
    | 3, _ => rfl
    | 4, _ => rfl
    | 5, _ => rfl) hN (Nat.le_of_ble_eq_true rfl) (Nat.le_of_ble_eq_true rfl) dX3_wrong_0 (fun H h1 h2 h3 => ?_)
  have hS : va_S (fun x => N ≤ x) s.heap H [] := ⟨by omega, fun q g1 g2 => h3 q (by omega), fun l hl => by cases hl⟩
  refine lv_dup hx hb dX3_wrong_3 rfl ?_
  refine va_callv (va_runI (As := []) (rest := [.ref N]) ⟨hx, hb, hml, hown, hts⟩ (mX8_init l D8 z N hz) (cwI 0 hts (lw_meth q1210) rfl rfl rfl (hts _ q159) (hts _ q1208) (hts _ q1209) rfl (by decide +kernel) ⟨Nat.le_of_ble_eq_true rfl, Nat.le_of_ble_eq_true rfl⟩) ⟨fun _ U g mk q => ⟨q.1, q.2.1, q.2.2.go (State.WarmedH.refl U) (fun _ _ _ => rfl)⟩, fun U hU hW => ⟨rfl, by rw [hU]; exact h1, hE.go hW (fun q g1 g2 => by rw [hU]; exact h3 q (by omega))⟩⟩ rfl rfl hl.1 rfl (lv_room (Nat.le_of_ble_eq_true rfl)) dX3_wrong_4 ⟨Nat.le_of_ble_eq_true rfl, Nat.le_of_ble_eq_true rfl⟩) hS (fun x _ h => Nat.le_of_eq (show x = N from h).symm) (fun x h => Nat.le_of_eq (show x = N from h).symm) (fun u t H1 locs1 ht hvm hp hB hz1 hk1 hS => ?_)
  rw [ht] at hB
  exact W.aret hx hb B.returns (Or.inl ⟨_, rfl⟩) (Or.inr ⟨N, rfl⟩) (fun t ht hW => ⟨⟨(), N, rfl, trivial, rfl, by rw [ht]; exact hB⟩, hS.F ht⟩) hS.2.2 dX3_wrong_7 B.notSynchronized
