set_option maxRecDepth 100000
section VLOAD
variable {p : Program} {l : Launch} {e : Env} {R : Room} {s : State} {m : MethodId} {args : Array Value} {below : List Frame} {meth : Method} {c : Code} {H : Heap} {locs : List Loc} {cells slots : Nat} {Q : State → Prop} {cc : ByteArray} {pc : Nat} {ls : Array Slot} {rest : List Value}
theorem lv_aload_nQ (hexec : p.tables.exec = Jvm.exec) (hb : c.code = cc) {k : Fin 4} {i : Nat} {x : Option Nat} (hdg : decode cc pc = .ok (.aload_n k, 1)) (hi : (k : Nat) = i) (hl : ls[i]? = some (.val (va_rf x)))
    (kk : W p l e R s m args below meth c H locs cells slots Q (F0 m (pc + 1) ls (va_rf x :: rest))) : W p l e R s m args below meth c H locs cells slots Q (F0 m pc ls rest) := by
  cases x with
  | none => exact lv_aload_nN hexec hb hdg hi hl kk
  | some x => exact lv_aload_n hexec hb hdg hi hl kk
end VLOAD

set_option maxHeartbeats 4000000 in
theorem mX16_init : ∀ (l : Launch) (D : va_G) (J : Nat → ClassId) (z : Nat) (aK aV : Nat → Nat) (a : Nat) (n : Int32) (fo : Option Nat), z ≤ a → Met l yX16_init (ws_ yX16_init cX16_init 3 none) ({ frames := 1, cells := 0, slots := 0, locals := 40 }) (va_Pc [.ref a, .int n, va_rf fo] (fun U => va_at D vwC (a, .inr (13, [.int 0, .null])) U.heap ∧ EC D J z aK aV U)) (va_Qv (fun (_ : Unit) => True) (fun _ t => va_at D vwC (a, .inr (13, [.int n, va_rf fo])) t.heap) (fun x => x = a)) 0 0 (fun x => x = a) := by
  intro l D J z aK aV a n fo hz 
  refine Met.ofW (cc := cX16_init) (maxL := 3) (ret := none) (by decide) rfl ?_
  intro p e s m args below meth c s₁ B hml hv
  obtain ⟨rfl, ha, hE⟩ := hv
  have hts := atoms_spec (ws := ws_ yX16_init cX16_init 3 (none)) B.pre
  have hts : ∀ w ∈ lw_all, w.before _ s = true := fun w h => hts w (List.mem_cons_of_mem _ h)
  have hown : s.vm.findClass RX16 = some m.cls := findClass_of_methodNamed B.named
  have hl := lv_entry [.ref a, .int n, va_rf fo] (n := 3) (by cases fo <;> exact Nat.le_of_ble_eq_true rfl)
  rw [lg_entry_eq]
  generalize (lg_sl [.ref a, .int n, va_rf fo] ++ List.replicate (3 - (lg_sl [.ref a, .int n, va_rf fo]).length) Slot.unset).toArray = ls at hl ⊢
  have hl : lv_has ls 3 [(0, .ref a), (1, .int n), (2, va_rf fo)] := hl
  have hx := B.exec
  have hb := B.bytes
  have hin : meth.name = "<init>" := (name_of_methodNamed B.named B.method).1
  refine lv_aload_n hx hb dX16_init_0 rfl (lv_at hl 0 rfl) ?_
  refine W.objInit hx hb hown (hts _ q1528) (hts _ q183) (hts _ q184) rfl (by rw [hml]; exact hl.1) rfl dX16_init_1 (Nat.le_of_ble_eq_true rfl) (Nat.le_of_ble_eq_true rfl) ?_
  refine W.eq (g2 := F0 m 4 ls []) rfl ?_
  have hS : va_S (fun x => x = a) s.heap s.heap [] := va_S.rf
  refine lv_aload_n hx hb dX16_init_4 rfl (lv_at hl 0 rfl) ?_
  refine lv_iload_n hx hb dX16_init_5 rfl (lv_at hl 1 rfl) ?_
  refine gputF hx hb hts in_X16 tyX16 tyX16_ok nmX16 hown hE.1 ha rfl 0 (by decide) q1529 rfl hin rfl rfl rfl (Nat.le_of_ble_eq_true rfl) dX16_init_6 (fun H locs h4 h5 h6 h7 => ?_)
  replace hS := va_S.one hS rfl h5 h6 h7
  replace ha := h4
  clear h4 h5 h6 h7
  refine lv_aload_n hx hb dX16_init_9 rfl (lv_at hl 0 rfl) ?_
  refine lv_aload_nQ hx hb dX16_init_10 rfl (lv_at hl 2 rfl) ?_
  refine gputF hx hb hts in_X16 tyX16 tyX16_ok nmX16 hown hE.1 ha rfl 1 (by decide) q1530 rfl hin rfl (by cases fo <;> rfl) (by cases fo <;> rfl) (Nat.le_of_ble_eq_true rfl) dX16_init_11 (fun H locs h4 h5 h6 h7 => ?_)
  replace hS := va_S.one hS rfl h5 h6 h7
  replace ha := h4
  clear h4 h5 h6 h7
  exact W.vret hx hb B.returns (fun t ht hW => ⟨⟨(), rfl, trivial, by show va_at D vwC _ t.heap; rw [ht]; exact ha⟩, hS.F ht⟩) hS.2.2 dX16_init_14 B.notSynchronized

set_option maxHeartbeats 4000000 in
theorem mX18_init : ∀ (l : Launch) (D : va_G) (J : Nat → ClassId) (z : Nat) (aK aV : Nat → Nat) (a : Nat) (x y : Nat), z ≤ a → Met l yX18_init (ws_ yX18_init cX18_init 3 none) ({ frames := 1, cells := 0, slots := 0, locals := 40 }) (va_Pc [.ref a, .ref x, .ref y] (fun U => va_at D vwC (a, .inr (14, [.null, .null])) U.heap ∧ EC D J z aK aV U)) (va_Qv (fun (_ : Unit) => True) (fun _ t => va_at D vwC (a, .inr (14, [.ref x, .ref y])) t.heap) (fun x => x = a)) 0 0 (fun x => x = a) := by
  intro l D J z aK aV a x y hz 
  refine Met.ofW (cc := cX18_init) (maxL := 3) (ret := none) (by decide) rfl ?_
  intro p e s m args below meth c s₁ B hml hv
  obtain ⟨rfl, ha, hE⟩ := hv
  have hts := atoms_spec (ws := ws_ yX18_init cX18_init 3 (none)) B.pre
  have hts : ∀ w ∈ lw_all, w.before _ s = true := fun w h => hts w (List.mem_cons_of_mem _ h)
  have hown : s.vm.findClass RX18 = some m.cls := findClass_of_methodNamed B.named
  have hl := lv_entry [.ref a, .ref x, .ref y] (n := 3) (Nat.le_of_ble_eq_true rfl)
  rw [lg_entry_eq]
  generalize (lg_sl [.ref a, .ref x, .ref y] ++ List.replicate (3 - (lg_sl [.ref a, .ref x, .ref y]).length) Slot.unset).toArray = ls at hl ⊢
  have hl : lv_has ls 3 [(0, .ref a), (1, .ref x), (2, .ref y)] := hl
  have hx := B.exec
  have hb := B.bytes
  have hin : meth.name = "<init>" := (name_of_methodNamed B.named B.method).1
  refine lv_aload_n hx hb dX18_init_0 rfl (lv_at hl 0 rfl) ?_
  refine W.objInit hx hb hown (hts _ q1616) (hts _ q183) (hts _ q184) rfl (by rw [hml]; exact hl.1) rfl dX18_init_1 (Nat.le_of_ble_eq_true rfl) (Nat.le_of_ble_eq_true rfl) ?_
  refine W.eq (g2 := F0 m 4 ls []) rfl ?_
  have hS : va_S (fun x => x = a) s.heap s.heap [] := va_S.rf
  refine lv_aload_n hx hb dX18_init_4 rfl (lv_at hl 0 rfl) ?_
  refine lv_aload_n hx hb dX18_init_5 rfl (lv_at hl 1 rfl) ?_
  refine gputF hx hb hts in_X18 tyX18 tyX18_ok nmX18 hown hE.1 ha rfl 0 (by decide) q1617 rfl hin rfl rfl rfl (Nat.le_of_ble_eq_true rfl) dX18_init_6 (fun H locs h4 h5 h6 h7 => ?_)
  replace hS := va_S.one hS rfl h5 h6 h7
  replace ha := h4
  clear h4 h5 h6 h7
  refine lv_aload_n hx hb dX18_init_9 rfl (lv_at hl 0 rfl) ?_
  refine lv_aload_n hx hb dX18_init_10 rfl (lv_at hl 2 rfl) ?_
  refine gputF hx hb hts in_X18 tyX18 tyX18_ok nmX18 hown hE.1 ha rfl 1 (by decide) q1618 rfl hin rfl rfl rfl (Nat.le_of_ble_eq_true rfl) dX18_init_11 (fun H locs h4 h5 h6 h7 => ?_)
  replace hS := va_S.one hS rfl h5 h6 h7
  replace ha := h4
  clear h4 h5 h6 h7
  exact W.vret hx hb B.returns (fun t ht hW => ⟨⟨(), rfl, trivial, by show va_at D vwC _ t.heap; rw [ht]; exact ha⟩, hS.F ht⟩) hS.2.2 dX18_init_14 B.notSynchronized

set_option maxHeartbeats 4000000 in
theorem mX14_init : ∀ (l : Launch) (D : va_G) (J : Nat → ClassId) (z : Nat) (aK aV : Nat → Nat) (a : Nat) (b : Int32), z ≤ a → b = 0 ∨ b = 1 → Met l yX14_init (ws_ yX14_init cX14_init 2 none) ({ frames := 1, cells := 0, slots := 0, locals := 40 }) (va_Pc [.ref a, .int b] (fun U => va_at D vwC (a, .inr (11, [.int 0])) U.heap ∧ EC D J z aK aV U)) (va_Qv (fun (_ : Unit) => True) (fun _ t => va_at D vwC (a, .inr (11, [.int b])) t.heap) (fun x => x = a)) 0 0 (fun x => x = a) := by
  intro l D J z aK aV a b hz hb9
  refine Met.ofW (cc := cX14_init) (maxL := 2) (ret := none) (by decide) rfl ?_
  intro p e s m args below meth c s₁ B hml hv
  obtain ⟨rfl, ha, hE⟩ := hv
  have hts := atoms_spec (ws := ws_ yX14_init cX14_init 2 (none)) B.pre
  have hts : ∀ w ∈ lw_all, w.before _ s = true := fun w h => hts w (List.mem_cons_of_mem _ h)
  have hown : s.vm.findClass RX14 = some m.cls := findClass_of_methodNamed B.named
  have hl := lv_entry [.ref a, .int b] (n := 2) (Nat.le_of_ble_eq_true rfl)
  rw [lg_entry_eq]
  generalize (lg_sl [.ref a, .int b] ++ List.replicate (2 - (lg_sl [.ref a, .int b]).length) Slot.unset).toArray = ls at hl ⊢
  have hl : lv_has ls 2 [(0, .ref a), (1, .int b)] := hl
  have hx := B.exec
  have hb := B.bytes
  have hin : meth.name = "<init>" := (name_of_methodNamed B.named B.method).1
  refine lv_aload_n hx hb dX14_init_0 rfl (lv_at hl 0 rfl) ?_
  refine W.objInit hx hb hown (hts _ q1492) (hts _ q183) (hts _ q184) rfl (by rw [hml]; exact hl.1) rfl dX14_init_1 (Nat.le_of_ble_eq_true rfl) (Nat.le_of_ble_eq_true rfl) ?_
  refine W.eq (g2 := F0 m 4 ls []) rfl ?_
  have hS : va_S (fun x => x = a) s.heap s.heap [] := va_S.rf
  refine lv_aload_n hx hb dX14_init_4 rfl (lv_at hl 0 rfl) ?_
  refine lv_iload_n hx hb dX14_init_5 rfl (lv_at hl 1 rfl) ?_
  refine gputF hx hb hts in_X14 tyX14 tyX14_ok nmX14 hown hE.1 ha rfl 0 (by decide) q1493 rfl hin rfl (zb_n hb9) (zb_f hb9) (Nat.le_of_ble_eq_true rfl) dX14_init_6 (fun H locs h4 h5 h6 h7 => ?_)
  replace hS := va_S.one hS rfl h5 h6 h7
  replace ha := h4
  clear h4 h5 h6 h7
  exact W.vret hx hb B.returns (fun t ht hW => ⟨⟨(), rfl, trivial, by show va_at D vwC _ t.heap; rw [ht]; exact ha⟩, hS.F ht⟩) hS.2.2 dX14_init_9 B.notSynchronized

set_option maxHeartbeats 4000000 in
theorem mX13_init : ∀ (l : Launch) (D : va_G) (J : Nat → ClassId) (z : Nat) (aK aV : Nat → Nat) (a : Nat) (x : Nat), z ≤ a → Met l yX13_init (ws_ yX13_init cX13_init 2 none) ({ frames := 1, cells := 0, slots := 0, locals := 40 }) (va_Pc [.ref a, .ref x] (fun U => va_at D vwC (a, .inr (10, [.null])) U.heap ∧ EC D J z aK aV U)) (va_Qv (fun (_ : Unit) => True) (fun _ t => va_at D vwC (a, .inr (10, [.ref x])) t.heap) (fun x => x = a)) 0 0 (fun x => x = a) := by
  intro l D J z aK aV a x hz 
  refine Met.ofW (cc := cX13_init) (maxL := 2) (ret := none) (by decide) rfl ?_
  intro p e s m args below meth c s₁ B hml hv
  obtain ⟨rfl, ha, hE⟩ := hv
  have hts := atoms_spec (ws := ws_ yX13_init cX13_init 2 (none)) B.pre
  have hts : ∀ w ∈ lw_all, w.before _ s = true := fun w h => hts w (List.mem_cons_of_mem _ h)
  have hown : s.vm.findClass RX13 = some m.cls := findClass_of_methodNamed B.named
  have hl := lv_entry [.ref a, .ref x] (n := 2) (Nat.le_of_ble_eq_true rfl)
  rw [lg_entry_eq]
  generalize (lg_sl [.ref a, .ref x] ++ List.replicate (2 - (lg_sl [.ref a, .ref x]).length) Slot.unset).toArray = ls at hl ⊢
  have hl : lv_has ls 2 [(0, .ref a), (1, .ref x)] := hl
  have hx := B.exec
  have hb := B.bytes
  have hin : meth.name = "<init>" := (name_of_methodNamed B.named B.method).1
  refine lv_aload_n hx hb dX13_init_0 rfl (lv_at hl 0 rfl) ?_
  refine W.objInit hx hb hown (hts _ q1481) (hts _ q183) (hts _ q184) rfl (by rw [hml]; exact hl.1) rfl dX13_init_1 (Nat.le_of_ble_eq_true rfl) (Nat.le_of_ble_eq_true rfl) ?_
  refine W.eq (g2 := F0 m 4 ls []) rfl ?_
  have hS : va_S (fun x => x = a) s.heap s.heap [] := va_S.rf
  refine lv_aload_n hx hb dX13_init_4 rfl (lv_at hl 0 rfl) ?_
  refine lv_aload_n hx hb dX13_init_5 rfl (lv_at hl 1 rfl) ?_
  refine gputF hx hb hts in_X13 tyX13 tyX13_ok nmX13 hown hE.1 ha rfl 0 (by decide) q1482 rfl hin rfl rfl rfl (Nat.le_of_ble_eq_true rfl) dX13_init_6 (fun H locs h4 h5 h6 h7 => ?_)
  replace hS := va_S.one hS rfl h5 h6 h7
  replace ha := h4
  clear h4 h5 h6 h7
  exact W.vret hx hb B.returns (fun t ht hW => ⟨⟨(), rfl, trivial, by show va_at D vwC _ t.heap; rw [ht]; exact ha⟩, hS.F ht⟩) hS.2.2 dX13_init_9 B.notSynchronized

set_option maxHeartbeats 4000000 in
theorem mX11_init : ∀ (l : Launch) (D : va_G) (J : Nat → ClassId) (z : Nat) (aK aV : Nat → Nat) (a : Nat) (x : Nat) (n : Int32) (fo : Option Nat), z ≤ a → Met l yX11_init (ws_ yX11_init cX11_init 4 none) ({ frames := 1, cells := 0, slots := 0, locals := 40 }) (va_Pc [.ref a, .ref x, .int n, va_rf fo] (fun U => va_at D vwC (a, .inr (8, [.null, .int 0, .null])) U.heap ∧ EC D J z aK aV U)) (va_Qv (fun (_ : Unit) => True) (fun _ t => va_at D vwC (a, .inr (8, [.ref x, .int n, va_rf fo])) t.heap) (fun x => x = a)) 0 0 (fun x => x = a) := by
  intro l D J z aK aV a x n fo hz 
  refine Met.ofW (cc := cX11_init) (maxL := 4) (ret := none) (by decide) rfl ?_
  intro p e s m args below meth c s₁ B hml hv
  obtain ⟨rfl, ha, hE⟩ := hv
  have hts := atoms_spec (ws := ws_ yX11_init cX11_init 4 (none)) B.pre
  have hts : ∀ w ∈ lw_all, w.before _ s = true := fun w h => hts w (List.mem_cons_of_mem _ h)
  have hown : s.vm.findClass RX11 = some m.cls := findClass_of_methodNamed B.named
  have hl := lv_entry [.ref a, .ref x, .int n, va_rf fo] (n := 4) (by cases fo <;> exact Nat.le_of_ble_eq_true rfl)
  rw [lg_entry_eq]
  generalize (lg_sl [.ref a, .ref x, .int n, va_rf fo] ++ List.replicate (4 - (lg_sl [.ref a, .ref x, .int n, va_rf fo]).length) Slot.unset).toArray = ls at hl ⊢
  have hl : lv_has ls 4 [(0, .ref a), (1, .ref x), (2, .int n), (3, va_rf fo)] := hl
  have hx := B.exec
  have hb := B.bytes
  have hin : meth.name = "<init>" := (name_of_methodNamed B.named B.method).1
  refine lv_aload_n hx hb dX11_init_0 rfl (lv_at hl 0 rfl) ?_
  refine W.objInit hx hb hown (hts _ q1629) (hts _ q183) (hts _ q184) rfl (by rw [hml]; exact hl.1) rfl dX11_init_1 (Nat.le_of_ble_eq_true rfl) (Nat.le_of_ble_eq_true rfl) ?_
  refine W.eq (g2 := F0 m 4 ls []) rfl ?_
  have hS : va_S (fun x => x = a) s.heap s.heap [] := va_S.rf
  refine lv_aload_n hx hb dX11_init_4 rfl (lv_at hl 0 rfl) ?_
  refine lv_aload_n hx hb dX11_init_5 rfl (lv_at hl 1 rfl) ?_
  refine gputF hx hb hts in_X11 tyX11 tyX11_ok nmX11 hown hE.1 ha rfl 0 (by decide) q1630 rfl hin rfl rfl rfl (Nat.le_of_ble_eq_true rfl) dX11_init_6 (fun H locs h4 h5 h6 h7 => ?_)
  replace hS := va_S.one hS rfl h5 h6 h7
  replace ha := h4
  clear h4 h5 h6 h7
  refine lv_aload_n hx hb dX11_init_9 rfl (lv_at hl 0 rfl) ?_
  refine lv_iload_n hx hb dX11_init_10 rfl (lv_at hl 2 rfl) ?_
  refine gputF hx hb hts in_X11 tyX11 tyX11_ok nmX11 hown hE.1 ha rfl 1 (by decide) q1632 rfl hin rfl rfl rfl (Nat.le_of_ble_eq_true rfl) dX11_init_11 (fun H locs h4 h5 h6 h7 => ?_)
  replace hS := va_S.one hS rfl h5 h6 h7
  replace ha := h4
  clear h4 h5 h6 h7
  refine lv_aload_n hx hb dX11_init_14 rfl (lv_at hl 0 rfl) ?_
  refine lv_aload_nQ hx hb dX11_init_15 rfl (lv_at hl 3 rfl) ?_
  refine gputF hx hb hts in_X11 tyX11 tyX11_ok nmX11 hown hE.1 ha rfl 2 (by decide) q1634 rfl hin rfl (by cases fo <;> rfl) (by cases fo <;> rfl) (Nat.le_of_ble_eq_true rfl) dX11_init_16 (fun H locs h4 h5 h6 h7 => ?_)
  replace hS := va_S.one hS rfl h5 h6 h7
  replace ha := h4
  clear h4 h5 h6 h7
  exact W.vret hx hb B.returns (fun t ht hW => ⟨⟨(), rfl, trivial, by show va_at D vwC _ t.heap; rw [ht]; exact ha⟩, hS.F ht⟩) hS.2.2 dX11_init_19 B.notSynchronized

set_option maxHeartbeats 4000000 in
theorem mX15_init : ∀ (l : Launch) (D : va_G) (J : Nat → ClassId) (z : Nat) (aK aV : Nat → Nat) (e0 a N : Nat) , z ≤ a → a < N → Met l yX15_init (ws_ yX15_init cX15_init 1 none) ({ frames := 4, cells := 1, slots := 3, locals := 150 }) (va_Pc [.ref a] (fun U => (U.heap.size = N ∧ va_at D vwC (a, .inr (12, [.null])) U.heap) ∧ EM aK aV e0 D J z U)) (va_Qv (fun (_ : Unit) => True) (fun _ t => t.heap.size = N + 1 ∧ va_at D vwC (a, .inr (12, [.ref N])) t.heap ∧ va_at D vwC (N, .inr (6, [.int (0 : Int32), .ref e0, .int 0])) t.heap) (fun x => x = a ∨ N ≤ x)) 1 3 (fun x => x = a ∨ N ≤ x) := by
  intro l D J z aK aV e0 a N  hz haN 
  refine Met.ofW (cc := cX15_init) (maxL := 1) (ret := none) (by decide) rfl ?_
  intro p e s m args below meth c s₁ B hml hv
  obtain ⟨rfl, ⟨hN, ha⟩, hE⟩ := hv
  have hts := atoms_spec (ws := ws_ yX15_init cX15_init 1 (none)) B.pre
  have hts : ∀ w ∈ lw_all, w.before _ s = true := fun w h => hts w (List.mem_cons_of_mem _ h)
  have hown : s.vm.findClass RX15 = some m.cls := findClass_of_methodNamed B.named
  have hl := lv_entry [.ref a] (n := 1) (Nat.le_of_ble_eq_true rfl)
  rw [lg_entry_eq]
  generalize (lg_sl [.ref a] ++ List.replicate (1 - (lg_sl [.ref a]).length) Slot.unset).toArray = ls at hl ⊢
  have hl : lv_has ls 1 [(0, .ref a)] := hl
  have hx := B.exec
  have hb := B.bytes
  have hin : meth.name = "<init>" := (name_of_methodNamed B.named B.method).1
  refine lv_aload_n hx hb dX15_init_0 rfl (lv_at hl 0 rfl) ?_
  refine W.objInit hx hb hown (hts _ q1507) (hts _ q183) (hts _ q184) rfl (by rw [hml]; exact hl.1) rfl dX15_init_1 (Nat.le_of_ble_eq_true rfl) (Nat.le_of_ble_eq_true rfl) ?_
  refine W.eq (g2 := F0 m 4 ls []) rfl ?_
  refine lv_aload_n hx hb dX15_init_4 rfl (lv_at hl 0 rfl) ?_
  refine gnew (C := RJ3) (T := TJ3) (N := 3) (ci := 6) (fs := [.int 0, .null, .int 0]) (h := N) hx hb hts in_J3 tyJ3 tyJ3_ok hown q1508 q422 q141 hE.1.1 rfl dvJ3 hN (Nat.le_of_ble_eq_true rfl) (Nat.le_of_ble_eq_true rfl) dX15_init_5 (fun H h1 h2 h3 => ?_)
  have hS : va_S (fun x => x = a ∨ N ≤ x) s.heap H [] := ⟨by omega, fun q g1 g2 => h3 q (by omega), fun l hl => by cases hl⟩
  replace ha := ha.kept (h3 a haN)
  refine lv_dup hx hb dX15_init_8 rfl ?_
  refine va_callv (va_runI (As := []) (rest := [.ref N, .ref a]) ⟨hx, hb, hml, hown, hts⟩ (mJ3_init aK aV e0 l D J z N (by omega)) (cwI 0 hts (lw_meth q425) rfl rfl rfl (hts _ q141) (hts _ q1509) (hts _ q424) rfl (by decide +kernel) ⟨Nat.le_of_ble_eq_true rfl, Nat.le_of_ble_eq_true rfl⟩) ⟨fun _ U g mk q => ⟨q.1, q.2.1, q.2.2.1, q.2.2.2.go (State.WarmedH.refl U) (fun _ _ _ => rfl)⟩, fun U hU hW => ⟨rfl, by rw [hU]; exact h2, by rw [hU]; exact h1, hE.go hW (fun q g1 g2 => by rw [hU]; exact h3 q (by omega))⟩⟩ rfl rfl hl.1 rfl (lv_room (Nat.le_of_ble_eq_true rfl)) dX15_init_9 ⟨Nat.le_of_ble_eq_true rfl, Nat.le_of_ble_eq_true rfl⟩) hS (fun q _ h => Or.inr h) (fun q h => Or.inr h) (fun u t H1 locs ht hvm hp hB hz1 hk1 hS => ?_)
  rw [ht] at hB
  have hb1 := hB.1 0 _ rfl
  have hsz : H1.size = N + 1 := hB.2
  replace ha := ha.kept (hk1 a (by omega) (by show ¬ N ≤ a; omega))
  clear hB hk1 ht hvm h1 h2 h3
  clear t
  refine gputF hx hb hts in_X15 tyX15 tyX15_ok nmX15 hown hE.1.1 ha rfl 0 (by decide) q1510 rfl hin rfl rfl rfl (Nat.le_of_ble_eq_true rfl) dX15_init_12 (fun H locs h4 h5 h6 h7 => ?_)
  replace hS := va_S.one hS (Or.inl rfl) h5 h6 h7
  replace ha := h4
  replace hb1 := hb1.kept (h6 N (by omega))
  replace hsz := h5.trans hsz
  clear h4 h5 h6 h7
  exact W.vret hx hb B.returns (fun t ht hW => ⟨⟨(), rfl, trivial, by show t.heap.size = N + 1 ∧ va_at D vwC _ t.heap ∧ va_at D vwC _ t.heap; rw [ht]; exact ⟨hsz, ha, hb1⟩⟩, hS.F ht⟩) hS.2.2 dX15_init_15 B.notSynchronized

set_option maxHeartbeats 4000000 in
theorem mX12_init : ∀ (l : Launch) (D : va_G) (J : Nat → ClassId) (z : Nat) (aK aV : Nat → Nat) (e0 a N : Nat) (b : Int32), z ≤ a → a < N → b = 0 ∨ b = 1 → Met l yX12_init (ws_ yX12_init cX12_init 2 none) ({ frames := 4, cells := 1, slots := 3, locals := 150 }) (va_Pc [.ref a, .int b] (fun U => (U.heap.size = N ∧ va_at D vwC (a, .inr (9, [.int 0, .null])) U.heap) ∧ EM aK aV e0 D J z U)) (va_Qv (fun (_ : Unit) => True) (fun _ t => t.heap.size = N + 1 ∧ va_at D vwC (a, .inr (9, [.int b, .ref N])) t.heap ∧ va_at D vwC (N, .inr (6, [.int (0 : Int32), .ref e0, .int 0])) t.heap) (fun x => x = a ∨ N ≤ x)) 1 3 (fun x => x = a ∨ N ≤ x) := by
  intro l D J z aK aV e0 a N b hz haN hb9
  refine Met.ofW (cc := cX12_init) (maxL := 2) (ret := none) (by decide) rfl ?_
  intro p e s m args below meth c s₁ B hml hv
  obtain ⟨rfl, ⟨hN, ha⟩, hE⟩ := hv
  have hts := atoms_spec (ws := ws_ yX12_init cX12_init 2 (none)) B.pre
  have hts : ∀ w ∈ lw_all, w.before _ s = true := fun w h => hts w (List.mem_cons_of_mem _ h)
  have hown : s.vm.findClass RX12 = some m.cls := findClass_of_methodNamed B.named
  have hl := lv_entry [.ref a, .int b] (n := 2) (Nat.le_of_ble_eq_true rfl)
  rw [lg_entry_eq]
  generalize (lg_sl [.ref a, .int b] ++ List.replicate (2 - (lg_sl [.ref a, .int b]).length) Slot.unset).toArray = ls at hl ⊢
  have hl : lv_has ls 2 [(0, .ref a), (1, .int b)] := hl
  have hx := B.exec
  have hb := B.bytes
  have hin : meth.name = "<init>" := (name_of_methodNamed B.named B.method).1
  refine lv_aload_n hx hb dX12_init_0 rfl (lv_at hl 0 rfl) ?_
  refine W.objInit hx hb hown (hts _ q1448) (hts _ q183) (hts _ q184) rfl (by rw [hml]; exact hl.1) rfl dX12_init_1 (Nat.le_of_ble_eq_true rfl) (Nat.le_of_ble_eq_true rfl) ?_
  refine W.eq (g2 := F0 m 4 ls []) rfl ?_
  refine lv_aload_n hx hb dX12_init_4 rfl (lv_at hl 0 rfl) ?_
  refine gnew (C := RJ3) (T := TJ3) (N := 3) (ci := 6) (fs := [.int 0, .null, .int 0]) (h := N) hx hb hts in_J3 tyJ3 tyJ3_ok hown q1449 q422 q141 hE.1.1 rfl dvJ3 hN (Nat.le_of_ble_eq_true rfl) (Nat.le_of_ble_eq_true rfl) dX12_init_5 (fun H h1 h2 h3 => ?_)
  have hS : va_S (fun x => x = a ∨ N ≤ x) s.heap H [] := ⟨by omega, fun q g1 g2 => h3 q (by omega), fun l hl => by cases hl⟩
  replace ha := ha.kept (h3 a haN)
  refine lv_dup hx hb dX12_init_8 rfl ?_
  refine va_callv (va_runI (As := []) (rest := [.ref N, .ref a]) ⟨hx, hb, hml, hown, hts⟩ (mJ3_init aK aV e0 l D J z N (by omega)) (cwI 0 hts (lw_meth q425) rfl rfl rfl (hts _ q141) (hts _ q1450) (hts _ q424) rfl (by decide +kernel) ⟨Nat.le_of_ble_eq_true rfl, Nat.le_of_ble_eq_true rfl⟩) ⟨fun _ U g mk q => ⟨q.1, q.2.1, q.2.2.1, q.2.2.2.go (State.WarmedH.refl U) (fun _ _ _ => rfl)⟩, fun U hU hW => ⟨rfl, by rw [hU]; exact h2, by rw [hU]; exact h1, hE.go hW (fun q g1 g2 => by rw [hU]; exact h3 q (by omega))⟩⟩ rfl rfl hl.1 rfl (lv_room (Nat.le_of_ble_eq_true rfl)) dX12_init_9 ⟨Nat.le_of_ble_eq_true rfl, Nat.le_of_ble_eq_true rfl⟩) hS (fun q _ h => Or.inr h) (fun q h => Or.inr h) (fun u t H1 locs ht hvm hp hB hz1 hk1 hS => ?_)
  rw [ht] at hB
  have hb1 := hB.1 0 _ rfl
  have hsz : H1.size = N + 1 := hB.2
  replace ha := ha.kept (hk1 a (by omega) (by show ¬ N ≤ a; omega))
  clear hB hk1 ht hvm h1 h2 h3
  clear t
  refine gputF hx hb hts in_X12 tyX12 tyX12_ok nmX12 hown hE.1.1 ha rfl 1 (by decide) q1452 rfl hin rfl rfl rfl (Nat.le_of_ble_eq_true rfl) dX12_init_12 (fun H locs h4 h5 h6 h7 => ?_)
  replace hS := va_S.one hS (Or.inl rfl) h5 h6 h7
  replace ha := h4
  replace hb1 := hb1.kept (h6 N (by omega))
  replace hsz := h5.trans hsz
  clear h4 h5 h6 h7
  refine lv_aload_n hx hb dX12_init_15 rfl (lv_at hl 0 rfl) ?_
  refine lv_iload_n hx hb dX12_init_16 rfl (lv_at hl 1 rfl) ?_
  refine gputF hx hb hts in_X12 tyX12 tyX12_ok nmX12 hown hE.1.1 ha rfl 0 (by decide) q1451 rfl hin rfl (zb_n hb9) (zb_f hb9) (Nat.le_of_ble_eq_true rfl) dX12_init_17 (fun H locs h4 h5 h6 h7 => ?_)
  replace hS := va_S.one hS (Or.inl rfl) h5 h6 h7
  replace ha := h4
  replace hb1 := hb1.kept (h6 N (by omega))
  replace hsz := h5.trans hsz
  clear h4 h5 h6 h7
  exact W.vret hx hb B.returns (fun t ht hW => ⟨⟨(), rfl, trivial, by show t.heap.size = N + 1 ∧ va_at D vwC _ t.heap ∧ va_at D vwC _ t.heap; rw [ht]; exact ⟨hsz, ha, hb1⟩⟩, hS.F ht⟩) hS.2.2 dX12_init_20 B.notSynchronized

set_option maxHeartbeats 4000000 in
theorem mX9_init : ∀ (l : Launch) (D : va_G) (J : Nat → ClassId) (z : Nat) (aK aV : Nat → Nat) (e0 a N : Nat) , z ≤ a → a < N → Met l yX9_init (ws_ yX9_init cX9_init 1 none) ({ frames := 4, cells := 1, slots := 3, locals := 150 }) (va_Pc [.ref a] (fun U => (U.heap.size = N ∧ va_at D vwC (a, .inr (7, [.null])) U.heap) ∧ EM aK aV e0 D J z U)) (va_Qv (fun (_ : Unit) => True) (fun _ t => t.heap.size = N + 1 ∧ va_at D vwC (a, .inr (7, [.ref N])) t.heap ∧ va_at D vwC (N, .inr (6, [.int (0 : Int32), .ref e0, .int 0])) t.heap) (fun x => x = a ∨ N ≤ x)) 1 3 (fun x => x = a ∨ N ≤ x) := by
  intro l D J z aK aV e0 a N  hz haN 
  refine Met.ofW (cc := cX9_init) (maxL := 1) (ret := none) (by decide) rfl ?_
  intro p e s m args below meth c s₁ B hml hv
  obtain ⟨rfl, ⟨hN, ha⟩, hE⟩ := hv
  have hts := atoms_spec (ws := ws_ yX9_init cX9_init 1 (none)) B.pre
  have hts : ∀ w ∈ lw_all, w.before _ s = true := fun w h => hts w (List.mem_cons_of_mem _ h)
  have hown : s.vm.findClass RX9 = some m.cls := findClass_of_methodNamed B.named
  have hl := lv_entry [.ref a] (n := 1) (Nat.le_of_ble_eq_true rfl)
  rw [lg_entry_eq]
  generalize (lg_sl [.ref a] ++ List.replicate (1 - (lg_sl [.ref a]).length) Slot.unset).toArray = ls at hl ⊢
  have hl : lv_has ls 1 [(0, .ref a)] := hl
  have hx := B.exec
  have hb := B.bytes
  have hin : meth.name = "<init>" := (name_of_methodNamed B.named B.method).1
  refine lv_aload_n hx hb dX9_init_0 rfl (lv_at hl 0 rfl) ?_
  refine W.objInit hx hb hown (hts _ q1409) (hts _ q183) (hts _ q184) rfl (by rw [hml]; exact hl.1) rfl dX9_init_1 (Nat.le_of_ble_eq_true rfl) (Nat.le_of_ble_eq_true rfl) ?_
  refine W.eq (g2 := F0 m 4 ls []) rfl ?_
  refine lv_aload_n hx hb dX9_init_4 rfl (lv_at hl 0 rfl) ?_
  refine gnew (C := RJ3) (T := TJ3) (N := 3) (ci := 6) (fs := [.int 0, .null, .int 0]) (h := N) hx hb hts in_J3 tyJ3 tyJ3_ok hown q1410 q422 q141 hE.1.1 rfl dvJ3 hN (Nat.le_of_ble_eq_true rfl) (Nat.le_of_ble_eq_true rfl) dX9_init_5 (fun H h1 h2 h3 => ?_)
  have hS : va_S (fun x => x = a ∨ N ≤ x) s.heap H [] := ⟨by omega, fun q g1 g2 => h3 q (by omega), fun l hl => by cases hl⟩
  replace ha := ha.kept (h3 a haN)
  refine lv_dup hx hb dX9_init_8 rfl ?_
  refine va_callv (va_runI (As := []) (rest := [.ref N, .ref a]) ⟨hx, hb, hml, hown, hts⟩ (mJ3_init aK aV e0 l D J z N (by omega)) (cwI 0 hts (lw_meth q425) rfl rfl rfl (hts _ q141) (hts _ q1411) (hts _ q424) rfl (by decide +kernel) ⟨Nat.le_of_ble_eq_true rfl, Nat.le_of_ble_eq_true rfl⟩) ⟨fun _ U g mk q => ⟨q.1, q.2.1, q.2.2.1, q.2.2.2.go (State.WarmedH.refl U) (fun _ _ _ => rfl)⟩, fun U hU hW => ⟨rfl, by rw [hU]; exact h2, by rw [hU]; exact h1, hE.go hW (fun q g1 g2 => by rw [hU]; exact h3 q (by omega))⟩⟩ rfl rfl hl.1 rfl (lv_room (Nat.le_of_ble_eq_true rfl)) dX9_init_9 ⟨Nat.le_of_ble_eq_true rfl, Nat.le_of_ble_eq_true rfl⟩) hS (fun q _ h => Or.inr h) (fun q h => Or.inr h) (fun u t H1 locs ht hvm hp hB hz1 hk1 hS => ?_)
  rw [ht] at hB
  have hb1 := hB.1 0 _ rfl
  have hsz : H1.size = N + 1 := hB.2
  replace ha := ha.kept (hk1 a (by omega) (by show ¬ N ≤ a; omega))
  clear hB hk1 ht hvm h1 h2 h3
  clear t
  refine gputF hx hb hts in_X9 tyX9 tyX9_ok nmX9 hown hE.1.1 ha rfl 0 (by decide) q1412 rfl hin rfl rfl rfl (Nat.le_of_ble_eq_true rfl) dX9_init_12 (fun H locs h4 h5 h6 h7 => ?_)
  replace hS := va_S.one hS (Or.inl rfl) h5 h6 h7
  replace ha := h4
  replace hb1 := hb1.kept (h6 N (by omega))
  replace hsz := h5.trans hsz
  clear h4 h5 h6 h7
  exact W.vret hx hb B.returns (fun t ht hW => ⟨⟨(), rfl, trivial, by show t.heap.size = N + 1 ∧ va_at D vwC _ t.heap ∧ va_at D vwC _ t.heap; rw [ht]; exact ⟨hsz, ha, hb1⟩⟩, hS.F ht⟩) hS.2.2 dX9_init_15 B.notSynchronized
