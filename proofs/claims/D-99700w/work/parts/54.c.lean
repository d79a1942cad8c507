set_option maxRecDepth 100000
set_option maxHeartbeats 4000000 in
theorem mJ5_append : ∀ (l : Launch) (D : va_G) (J : Nat → ClassId) (z : Nat) (aK aV : Nat → Nat) (q vq k cap N : Nat) (c9 : Int32) (f : Nat → Int32), k ≤ cap → cap < 2 ^ 20 → z ≤ q → z ≤ vq → vq ≠ q → q < N → (∀ j, fits .byte (.int (f j)) = true) → ¬ (255 : Int32) < c9 → Met l yJ5_append (ws_ yJ5_append cJ5_append 2 (some (.object "java/lang/StringBuilder"))) ({ frames := 7, cells := (if k = cap then 1 else 0), slots := (if k = cap then 2 * cap + 2 else 0), locals := 800 }) (va_Pc [.ref q, .int c9] (fun U => (U.heap.size = N ∧ va_at D vwC (sbO q vq k) U.heap ∧ va_at D vwC (byO J vq cap f) U.heap) ∧ EB aK aV D J z U)) (va_Qr (fun (_ : Unit) => True) (fun _ x t => x = q ∧ ∃ v9 : Nat, (v9 = vq ∨ N ≤ v9) ∧ va_at D vwC (sbO q v9 (k + 1)) t.heap ∧ va_at D vwC (byO J v9 (if k = cap then 2 * cap + 2 else cap) (upd (if k = cap then va_cpy f (fun _ => 0) 0 0 cap else f) k c9.toInt8.toInt32)) t.heap) (fun x => x = q ∨ x = vq ∨ N ≤ x)) (if k = cap then 1 else 0) (if k = cap then 2 * cap + 2 else 0) (fun x => x = q ∨ x = vq ∨ N ≤ x) := by
  intro l D J z aK aV q vq k cap N c9 f hk hcap hz hzv hvq hqN hfit hc9
  refine Met.ofW (cc := cJ5_append) (maxL := 2) (ret := some (.object "java/lang/StringBuilder")) (by decide) rfl ?_
  intro p e s m args below meth c s₁ B hml hv
  obtain ⟨rfl, ⟨hN, ha, hv⟩, hE⟩ := hv
  have hts := atoms_spec (ws := ws_ yJ5_append cJ5_append 2 (some (.object "java/lang/StringBuilder"))) B.pre
  have hts : ∀ w ∈ lw_all, w.before _ s = true := fun w h => hts w (List.mem_cons_of_mem _ h)
  have hown : s.vm.findClass RJ5 = some m.cls := findClass_of_methodNamed B.named
  have hl := lv_entry [.ref q, .int c9] (n := 2) (Nat.le_of_ble_eq_true rfl)
  rw [lg_entry_eq]
  generalize (lg_sl [.ref q, .int c9] ++ List.replicate (2 - (lg_sl [.ref q, .int c9]).length) Slot.unset).toArray = ls at hl ⊢
  have hl : lv_has ls 2 [(0, .ref q), (1, .int c9)] := hl
  have hx := B.exec
  have hb := B.bytes
  refine lv_aload_n hx hb dJ5_append_0 rfl (lv_at hl 0 rfl) ?_
  refine lv_iload_n hx hb dJ5_append_1 rfl (lv_at hl 1 rfl) ?_
  refine va_callr (va_runSU (As := [.int c9]) (rest := []) (hE.1.1.1 15 _ rfl).2 ⟨hx, hb, hml, hown, hts⟩ (mJ4_append l D J z aK aV q vq k cap N c9 f hk hcap hz hzv hvq hqN hfit hc9) (va_cwSU 1 hts (lw_SU q904 q2743 q899 q905 q145 q906) rfl rfl rfl (by decide +kernel) ⟨Nat.le_of_ble_eq_true rfl, Nat.le_of_ble_eq_true rfl⟩) ⟨fun _ U g mk q => ⟨q.1, q.2.1, q.2.2.go (State.WarmedH.refl U) (fun _ _ _ => rfl)⟩, g_recv hE.1.1 ha rfl, fun U hU hW => ⟨rfl, by rw [hU]; exact ⟨hN, ha, hv⟩, hE.go hW (fun _ _ _ => by rw [hU])⟩⟩ rfl rfl hl.1 rfl (lv_room (Nat.le_of_ble_eq_true rfl)) dJ5_append_2 ⟨by rw [Nat.zero_add]; exact Nat.le_refl _, by rw [Nat.zero_add]; exact Nat.le_refl _⟩) (va_S.rf (A := (fun x => x = q ∨ x = vq ∨ N ≤ x))) (fun _ _ h => h) (fun _ h => h) (fun u r t H1 locs1 ht hvm hp hB hz1 hk1 hS => ?_)
  rw [ht] at hB
  refine lv_pop hx hb dJ5_append_5 rfl ?_
  refine lv_aload_n hx hb dJ5_append_6 rfl (lv_at hl 0 rfl) ?_
  exact W.widen (k := (if k = cap then 1 else 0)) (n := (if k = cap then 2 * cap + 2 else 0)) (by omega) (by omega) (W.aret hx hb B.returns (Or.inl ⟨_, rfl⟩) (Or.inr ⟨q, rfl⟩) (fun t ht hW => ⟨⟨(), q, rfl, trivial, rfl, by rw [ht]; exact hB.2⟩, hS.F ht⟩) hS.2.2 dJ5_append_7 B.notSynchronized)
set_option maxHeartbeats 4000000 in
theorem mJ4_init : ∀ (l : Launch) (D : va_G) (J : Nat → ClassId) (z : Nat) (aK aV : Nat → Nat) (a N : Nat), a < N → z ≤ a → Met l yJ4_init (ws_ yJ4_init cJ4_init 2 none) ({ frames := 2, cells := 1, slots := 16, locals := 60 }) (va_Pc [.ref a, .int 16] (fun U => (U.heap.size = N ∧ va_at D vwC (a, .inr (15, [.null, .int 0, .int 0, .int 0])) U.heap) ∧ EB aK aV D J z U)) (va_Qv (fun (_ : Unit) => True) (fun _ t => va_at D vwC (sbO a N 0) t.heap ∧ va_at D vwC (byO J N 16 (fun _ => 0)) t.heap) (fun x => x = a ∨ N ≤ x)) 1 16 (fun x => x = a ∨ N ≤ x) := by
  intro l D J z aK aV a N haN hz
  refine Met.ofW (cc := cJ4_init) (maxL := 2) (ret := none) (by decide) rfl ?_
  intro p e s m args below meth c s₁ B hml hv
  obtain ⟨rfl, ⟨hN, ha⟩, hE⟩ := hv
  have hts := atoms_spec (ws := ws_ yJ4_init cJ4_init 2 (none)) B.pre
  have hts : ∀ w ∈ lw_all, w.before _ s = true := fun w h => hts w (List.mem_cons_of_mem _ h)
  have hown : s.vm.findClass RJ4 = some m.cls := findClass_of_methodNamed B.named
  have hl := lv_entry [.ref a, .int 16] (n := 2) (Nat.le_of_ble_eq_true rfl)
  rw [lg_entry_eq]
  generalize (lg_sl [.ref a, .int 16] ++ List.replicate (2 - (lg_sl [.ref a, .int 16]).length) Slot.unset).toArray = ls at hl ⊢
  have hl : lv_has ls 2 [(0, .ref a), (1, .int (16 : Int32))] := hl
  have hx := B.exec
  have hb := B.bytes
  refine lv_aload_n hx hb dJ4_init_0 rfl (lv_at hl 0 rfl) ?_
  refine W.objInit hx hb hown (hts _ q877) (hts _ q183) (hts _ q184) rfl (by rw [hml]; exact hl.1) rfl dJ4_init_1 (Nat.le_of_ble_eq_true rfl) (Nat.le_of_ble_eq_true rfl) ?_
  refine W.eq (g2 := F0 m 4 ls []) rfl ?_
  refine va_gets (A := zZ z) hx hb hE.1.2.1.2.2.1 va_S.rf hown (hts _ q878) (fun _ h => h) dJ4_init_4 ?_
  refine lv_if_eq (tgt := 25) hx hb dJ4_init_7 (by decide) (fun hc => absurd hc (by decide)) (fun _ => ?_)
  refine lv_aload_n hx hb dJ4_init_10 rfl (lv_at hl 0 rfl) ?_
  refine lv_iload_n hx hb dJ4_init_11 rfl (lv_at hl 1 rfl) ?_
  refine gnewa (D := D) (cl := vwC) (atype := .byte) (ty := .byte) (cA := J 2) (a0 := (16, .inl (fun _ => 0))) (N' := 16) (h := N) hx hb hts q352 rfl (hE.1.1.2 2 _ rfl).2 (fun _ => rfl) (by decide) rfl (by decide) hN (Nat.le_of_ble_eq_true rfl) (Nat.le_of_ble_eq_true rfl) dJ4_init_12 (fun H h1 h2 h3 => ?_)
  replace ha := ha.kept (h3 a haN)
  have hS : va_S (fun x => x = a ∨ N ≤ x) s.heap H [] := ⟨by omega, fun q g1 g2 => h3 q (by omega), fun l g => by cases g⟩
  refine gput hx hb hts in_J5 tyJ5 tyJ5_ok nmJ5 hown hE.1.1 ha rfl 0 (by decide) q887 rfl rfl rfl (Nat.le_of_ble_eq_true rfl) dJ4_init_14 (fun H locs h4 h5 h6 h7 => ?_)
  replace hS := va_S.one hS (Or.inl rfl) h5 h6 h7
  replace h1 := h1.kept (h6 N (by omega))
  replace ha := h4
  clear h4 h5 h6 h7
  refine lv_aload_n hx hb dJ4_init_17 rfl (lv_at hl 0 rfl) ?_
  refine lv_iconst (v := (0 : Int32)) hx hb dJ4_init_18 (by decide) ?_
  refine gput hx hb hts in_J5 tyJ5 tyJ5_ok nmJ5 hown hE.1.1 ha rfl 1 (by decide) q888 rfl rfl rfl (Nat.le_of_ble_eq_true rfl) dJ4_init_19 (fun H locs h4 h5 h6 h7 => ?_)
  replace hS := va_S.one hS (Or.inl rfl) h5 h6 h7
  replace h1 := h1.kept (h6 N (by omega))
  replace ha := h4
  clear h4 h5 h6 h7
  refine lv_goto (tgt := 38) hx hb dJ4_init_22 (by decide) ?_
  exact W.vret hx hb B.returns (fun t ht hW => ⟨⟨(), rfl, trivial, by show va_at D vwC _ t.heap ∧ va_at D vwC _ t.heap; rw [ht]; exact ⟨ha, h1⟩⟩, hS.F ht⟩) hS.2.2 dJ4_init_38 B.notSynchronized
set_option maxHeartbeats 4000000 in
theorem mJ5_init : ∀ (l : Launch) (D : va_G) (J : Nat → ClassId) (z : Nat) (aK aV : Nat → Nat) (a N : Nat), a < N → z ≤ a → Met l yJ5_init (ws_ yJ5_init cJ5_init 1 none) ({ frames := 3, cells := 1, slots := 16, locals := 150 }) (va_Pc [.ref a] (fun U => (U.heap.size = N ∧ va_at D vwC (a, .inr (15, [.null, .int 0, .int 0, .int 0])) U.heap) ∧ EB aK aV D J z U)) (va_Qv (fun (_ : Unit) => True) (fun _ t => va_at D vwC (sbO a N 0) t.heap ∧ va_at D vwC (byO J N 16 (fun _ => 0)) t.heap) (fun x => x = a ∨ N ≤ x)) 1 16 (fun x => x = a ∨ N ≤ x) := by
  intro l D J z aK aV a N haN hz
  refine Met.ofW (cc := cJ5_init) (maxL := 1) (ret := none) (by decide) rfl ?_
  intro p e s m args below meth c s₁ B hml hv
  obtain ⟨rfl, ⟨hN, ha⟩, hE⟩ := hv
  have hts := atoms_spec (ws := ws_ yJ5_init cJ5_init 1 (none)) B.pre
  have hts : ∀ w ∈ lw_all, w.before _ s = true := fun w h => hts w (List.mem_cons_of_mem _ h)
  have hown : s.vm.findClass RJ5 = some m.cls := findClass_of_methodNamed B.named
  have hl := lv_entry [.ref a] (n := 1) (Nat.le_of_ble_eq_true rfl)
  rw [lg_entry_eq]
  generalize (lg_sl [.ref a] ++ List.replicate (1 - (lg_sl [.ref a]).length) Slot.unset).toArray = ls at hl ⊢
  have hl : lv_has ls 1 [(0, .ref a)] := hl
  have hx := B.exec
  have hb := B.bytes
  refine lv_aload_n hx hb dJ5_init_0 rfl (lv_at hl 0 rfl) ?_
  refine lv_bipush (v := (16 : Int32)) hx hb dJ5_init_1 (by decide) ?_
  refine va_callv (va_runI (As := [.int 16]) (rest := []) ⟨hx, hb, hml, hown, hts⟩ (mJ4_init l D J z aK aV a N haN hz) (cwI 1 hts (lw_meth q876) rfl rfl rfl (hts _ q145) (hts _ q874) (hts _ q875) rfl (by decide +kernel) ⟨Nat.le_of_ble_eq_true rfl, Nat.le_of_ble_eq_true rfl⟩) ⟨fun _ U g mk q => ⟨q.1, q.2.1, q.2.2.go (State.WarmedH.refl U) (fun _ _ _ => rfl)⟩, fun U hU hW => ⟨rfl, by rw [hU]; exact ⟨hN, ha⟩, hE.go hW (fun _ _ _ => by rw [hU])⟩⟩ rfl rfl hl.1 rfl (lv_room (Nat.le_of_ble_eq_true rfl)) dJ5_init_3 ⟨Nat.le_of_ble_eq_true rfl, Nat.le_of_ble_eq_true rfl⟩) (va_S.rf (A := (fun x => x = a ∨ N ≤ x))) (fun _ _ h => h) (fun _ h => h) (fun u t H1 locs1 ht hvm hp hB hz1 hk1 hS => ?_)
  rw [ht] at hB
  exact W.vret hx hb B.returns (fun t ht hW => ⟨⟨(), rfl, trivial, by show va_at D vwC _ t.heap ∧ va_at D vwC _ t.heap; rw [ht]; exact hB⟩, hS.F ht⟩) hS.2.2 dJ5_init_6 B.notSynchronized
theorem mJ0_checkLength (n : Nat) (hn : n < 2 ^ 31) : SVn yJ0_checkLength cJ0_checkLength 2 1 40 [.int 0, .int (nI n)] := by
  refine SVn.of (by decide) (Nat.le_of_ble_eq_true rfl) ?_
  intro p l e s m args below meth c Q ls hx hb hml hown hts hret hl
  have hl : lv_has ls 2 [(0, .int (0 : Int32)), (1, .int (nI n))] := hl
  refine lv_iload_n hx hb dJ0_checkLength_0 rfl (lv_at hl 1 rfl) ?_
  refine lv_iload_n hx hb dJ0_checkLength_1 rfl (lv_at hl 0 rfl) ?_
  refine lv_icmp_ge (tgt := 37) hx hb dJ0_checkLength_2 (by decide) (fun _ => ?_) (fun hc => absurd (nI_le (a := 0) (Nat.zero_le n) (by omega)) hc)
  exact hret 37 ls dJ0_checkLength_37
set_option maxHeartbeats 4000000 in
theorem mJ0_copyOfRangeByte : ∀ (l : Launch) (D : va_G) (J : Nat → ClassId) (z : Nat) (aK aV : Nat → Nat) (v n cap N : Nat) (f : Nat → Int32), n ≤ cap → cap < 2 ^ 22 → (∀ j, fits .byte (.int (f j)) = true) → Met l yJ0_copyOfRangeByte (ws_ yJ0_copyOfRangeByte cJ0_copyOfRangeByte 5 (some (.array .byte))) ({ frames := 2, cells := 1, slots := n, locals := 150 }) (va_Pc [.ref v, .int 0, .int (nI n)] (fun U => (U.heap.size = N ∧ va_at D vwC (byO J v cap f) U.heap) ∧ EB aK aV D J z U)) (va_Qr (fun (_ : Unit) => True) (fun _ x t => N ≤ x ∧ va_at D vwC (byO J x n f) t.heap) (fun x => N ≤ x)) 1 n (fun x => N ≤ x) := by
  intro l D J z aK aV v n cap N f hn hcap hfit
  refine Met.ofW (cc := cJ0_copyOfRangeByte) (maxL := 5) (ret := some (.array .byte)) (by decide) rfl ?_
  intro p e s m args below meth c s₁ B hml hv
  obtain ⟨rfl, ⟨hN, ha⟩, hE⟩ := hv
  have hts := atoms_spec (ws := ws_ yJ0_copyOfRangeByte cJ0_copyOfRangeByte 5 (some (.array .byte))) B.pre
  have hts : ∀ w ∈ lw_all, w.before _ s = true := fun w h => hts w (List.mem_cons_of_mem _ h)
  have hown : s.vm.findClass RJ0 = some m.cls := findClass_of_methodNamed B.named
  have hl := lv_entry [.ref v, .int 0, .int (nI n)] (n := 5) (Nat.le_of_ble_eq_true rfl)
  rw [lg_entry_eq]
  generalize (lg_sl [.ref v, .int 0, .int (nI n)] ++ List.replicate (5 - (lg_sl [.ref v, .int 0, .int (nI n)]).length) Slot.unset).toArray = ls at hl ⊢
  have hl : lv_has ls 5 [(0, .ref v), (1, .int (0 : Int32)), (2, .int (nI n))] := hl
  have hx := B.exec
  have hb := B.bytes
  refine lv_iload_n hx hb dJ0_copyOfRangeByte_0 rfl (lv_at hl 1 rfl) ?_
  refine lv_iload_n hx hb dJ0_copyOfRangeByte_1 rfl (lv_at hl 2 rfl) ?_
  refine tcallSv (rest := []) hx hb hts hown hml hl.1 (mJ0_checkLength n (by omega)) (va_cwS 2 hts (lw_S q1020 q1021 q135 q1022) rfl rfl rfl (by decide +kernel) ⟨Nat.le_of_ble_eq_true rfl, Nat.le_of_ble_eq_true rfl⟩) ⟨by show (0 : Nat) ≤ 1; omega, by show 0 ≤ n; omega⟩ rfl rfl (lv_room (Nat.le_of_ble_eq_true rfl)) dJ0_copyOfRangeByte_2 ?_
  refine lv_iload_n hx hb dJ0_copyOfRangeByte_5 rfl (lv_at hl 2 rfl) ?_
  refine lv_iload_n hx hb dJ0_copyOfRangeByte_6 rfl (lv_at hl 1 rfl) ?_
  refine lv_isub hx hb dJ0_copyOfRangeByte_7 ?_
  rw [Int32.sub_zero]
  refine lv_istore_n (lv' := [(3, .int (nI n)), (0, .ref v), (1, .int (0 : Int32)), (2, .int (nI n))]) hx hb dJ0_copyOfRangeByte_8 rfl hl (by decide) rfl (fun ls hl => ?_)
  refine lv_iload_n hx hb dJ0_copyOfRangeByte_9 rfl (lv_at hl 0 rfl) ?_
  refine gnewa (D := D) (cl := vwC) (atype := .byte) (ty := .byte) (cA := J 2) (a0 := (n, .inl (fun _ => 0))) (N' := n) (h := N) hx hb hts q352 rfl (hE.1.1.2 2 _ rfl).2 (fun _ => rfl) (nI_pos (by omega)) (nI_clamp (by omega)) (by show n * 1 ≤ 536870912; omega) hN (Nat.le_of_ble_eq_true rfl) (by show 0 + n ≤ n; omega) dJ0_copyOfRangeByte_10 (fun H h1 h2 h3 => ?_)
  have hlt := ha.lt
  replace ha := ha.kept (h3 v (by rw [hN] at hlt; exact hlt))
  refine lv_astore (lv' := [(4, .ref N), (3, .int (nI n)), (0, .ref v), (1, .int (0 : Int32)), (2, .int (nI n))]) hx hb dJ0_copyOfRangeByte_12 hl (by decide) rfl (fun ls hl => ?_)
  refine lv_aload_n hx hb dJ0_copyOfRangeByte_14 rfl (lv_at hl 2 rfl) ?_
  refine lv_iload_n hx hb dJ0_copyOfRangeByte_15 rfl (lv_at hl 3 rfl) ?_
  refine lv_aload hx hb dJ0_copyOfRangeByte_16 (lv_at hl 0 rfl) ?_
  refine lv_iconst (v := (0 : Int32)) hx hb dJ0_copyOfRangeByte_18 (by decide) ?_
  refine lv_aload_n hx hb dJ0_copyOfRangeByte_19 rfl (lv_at hl 2 rfl) ?_
  refine va_alen (v := nI cap) hx hb hE.1.1 (va_P1 ha) 0 2 rfl rfl rfl dJ0_copyOfRangeByte_20 ?_
  refine lv_iload_n hx hb dJ0_copyOfRangeByte_21 rfl (lv_at hl 3 rfl) ?_
  refine lv_isub hx hb dJ0_copyOfRangeByte_22 ?_
  rw [Int32.sub_zero]
  refine lv_iload_n hx hb dJ0_copyOfRangeByte_23 rfl (lv_at hl 1 rfl) ?_
  refine va_mmin hx hb (hml.trans hl.1.symm) hown (hts _ q934) (hts _ q682) (hts _ q150) (hts _ q683) (Nat.le_of_ble_eq_true rfl) (Nat.le_of_ble_eq_true rfl) (Nat.le_of_ble_eq_true rfl) (by show 0 + n ≤ n; omega) dJ0_copyOfRangeByte_24 ?_
  rw [show (if nI n < nI cap then nI n else nI cap) = nI n from by
    by_cases h : nI n < nI cap
    · rw [if_pos h]
    · rw [if_neg h]
      rcases Nat.lt_or_ge n cap with g | g
      · exact absurd (nI_lt g (by omega)) h
      · rw [show cap = n by omega]]
  refine gcopy (rest := []) (f := f) hx hb (hml.trans hl.1.symm) hts hown hE.1.1 2 q935 ha h1 rfl rfl ⟨by decide, by decide, nI_pos (by omega), by rw [nI_clamp (by omega)]; show 0 + n ≤ cap; omega, by rw [nI_clamp (by omega)]; show 0 + n ≤ n; omega⟩ (fun i _ => hfit _) (Nat.le_of_ble_eq_true rfl) (Nat.le_of_ble_eq_true rfl) dJ0_copyOfRangeByte_27 (fun H1 locs1 h4 h5 h6 h7 => ?_)
  replace h4 : va_at D vwC (byO J N n f) H1 := cpy_at h4 (nI_clamp (by omega))
  have hS : va_S (fun q => N ≤ q) s.heap H1 locs1 := ⟨by rw [h5, h2]; omega, fun q g1 g2 => (h6 q (by omega)).trans (h3 q (by omega)), fun l g => by
    rcases h7 l g with g | g
    · cases g
    · rw [g]; exact Nat.le_refl _⟩
  refine lv_aload hx hb dJ0_copyOfRangeByte_30 (lv_at hl 0 rfl) ?_
  exact W.widen (k := 1) (n := n) (by omega) (by show 0 + n ≤ n; omega) (W.aret hx hb B.returns (Or.inr ⟨_, rfl⟩) (Or.inr ⟨N, rfl⟩) (fun t ht hW => ⟨⟨(), N, rfl, trivial, Nat.le_refl _, by rw [ht]; exact h4⟩, hS.F ht⟩) hS.2.2 dJ0_copyOfRangeByte_32 B.notSynchronized)
set_option maxHeartbeats 4000000 in
theorem mJ0_copyOfRange : ∀ (l : Launch) (D : va_G) (J : Nat → ClassId) (z : Nat) (aK aV : Nat → Nat) (v n cap N : Nat) (f : Nat → Int32), n ≤ cap → cap < 2 ^ 22 → (∀ j, fits .byte (.int (f j)) = true) → Met l yJ0_copyOfRange (ws_ yJ0_copyOfRange cJ0_copyOfRange 3 (some (.array .byte))) ({ frames := 3, cells := 1, slots := n, locals := 250 }) (va_Pc [.ref v, .int 0, .int (nI n)] (fun U => (U.heap.size = N ∧ va_at D vwC (byO J v cap f) U.heap) ∧ EB aK aV D J z U)) (va_Qr (fun (_ : Unit) => True) (fun _ x t => N ≤ x ∧ va_at D vwC (byO J x n f) t.heap) (fun x => N ≤ x)) 1 n (fun x => N ≤ x) := by
  intro l D J z aK aV v n cap N f hn hcap hfit
  refine Met.ofW (cc := cJ0_copyOfRange) (maxL := 3) (ret := some (.array .byte)) (by decide) rfl ?_
  intro p e s m args below meth c s₁ B hml hv
  obtain ⟨rfl, ⟨hN, ha⟩, hE⟩ := hv
  have hts := atoms_spec (ws := ws_ yJ0_copyOfRange cJ0_copyOfRange 3 (some (.array .byte))) B.pre
  have hts : ∀ w ∈ lw_all, w.before _ s = true := fun w h => hts w (List.mem_cons_of_mem _ h)
  have hown : s.vm.findClass RJ0 = some m.cls := findClass_of_methodNamed B.named
  have hl := lv_entry [.ref v, .int 0, .int (nI n)] (n := 3) (Nat.le_of_ble_eq_true rfl)
  rw [lg_entry_eq]
  generalize (lg_sl [.ref v, .int 0, .int (nI n)] ++ List.replicate (3 - (lg_sl [.ref v, .int 0, .int (nI n)]).length) Slot.unset).toArray = ls at hl ⊢
  have hl : lv_has ls 3 [(0, .ref v), (1, .int (0 : Int32)), (2, .int (nI n))] := hl
  have hx := B.exec
  have hb := B.bytes
  refine lv_iload_n hx hb dJ0_copyOfRange_0 rfl (lv_at hl 1 rfl) ?_
  refine lv_if_ne (tgt := 10) hx hb dJ0_copyOfRange_1 (by decide) (fun hc => absurd rfl hc) (fun _ => ?_)
  refine lv_iload_n hx hb dJ0_copyOfRange_4 rfl (lv_at hl 2 rfl) ?_
  refine lv_aload_n hx hb dJ0_copyOfRange_5 rfl (lv_at hl 0 rfl) ?_
  refine va_alen (v := nI cap) hx hb hE.1.1 (va_P1 ha) 0 2 rfl rfl rfl dJ0_copyOfRange_6 ?_
  by_cases c0 : n = cap
  · subst c0
    refine lv_icmp_eq (tgt := 17) hx hb dJ0_copyOfRange_7 (by decide) (fun _ => ?_) (fun hc => absurd rfl hc)
    refine lv_aload_n hx hb dJ0_copyOfRange_17 rfl (lv_at hl 0 rfl) ?_
    refine va_clone (A := fun q => q = v ∨ N ≤ q) (cl := vwC) (ws := [byO J v n f]) hx hb (hml.trans hl.1.symm) hown (hts _ q927) (hts _ q928) (hts _ q929) (hts _ q930) (hts _ q931) hE.2.2.2 hE.1.1 (va_P1 ha) ⟨fun i j p q hi hj e => ?_, fun i q hi => ?_⟩ (va_S.rf (H0 := s.heap)) (fun q h => Or.inr (by omega)) 0 2 rfl rfl (nmB (hE.1.1.2 2 _ rfl).2) ?_ (Nat.le_of_ble_eq_true rfl) (Nat.le_of_ble_eq_true rfl) (Nat.le_of_ble_eq_true rfl) (by show 0 + n ≤ n; omega) dJ0_copyOfRange_18 (fun q9 H1 _ hP9 hD9 hS9 => ?_)
    · match i, j, hi, hj with
      | 0, 0, _, _ => rfl
      | 0, j + 1, _, hj => cases hj
      | i + 1, _, hi, _ => cases hi
    · match i, hi with
      | 0, hi => cases hi; exact Or.inl rfl
      | i + 1, hi => cases hi
    · exact va_fit (fun i _ => hfit i)
    have h9 : va_at D vwC (byO J q9 n f) H1 := hP9 1 _ rfl
    have hq9 : N ≤ q9 := by
      rcases hD9.2 1 _ rfl with g | g
      · have := hD9.1 0 1 _ _ rfl rfl g.symm
        cases this
      · exact g
    have hS : va_S (fun x => N ≤ x) s.heap H1 [] := ⟨hS9.1, fun q g1 g2 => by
      by_cases g : q = v
      · rw [g]; exact (show H1[v]? = some _ from hP9 0 _ rfl).trans (show s.heap[v]? = some _ from ha).symm
      · exact hS9.2.1 q g1 (fun k => k.elim g g2), fun l g => by cases g⟩
    refine va_castA hx hb hown (hts _ q933) (va_P1 h9) 0 rfl (nmB (hE.1.1.2 2 _ rfl).2) dJ0_copyOfRange_21 ?_
    exact W.widen (k := 1) (n := n) (Nat.le_refl _) (by show 0 + n ≤ n; omega) (W.aret hx hb B.returns (Or.inr ⟨_, rfl⟩) (Or.inr ⟨_, rfl⟩) (fun t ht hW => ⟨⟨(), _, rfl, trivial, hq9, by rw [ht]; exact h9⟩, hS.F ht⟩) hS.2.2 dJ0_copyOfRange_24 B.notSynchronized)
  refine lv_icmp_eq (tgt := 17) hx hb dJ0_copyOfRange_7 (by decide) (fun hc => absurd (nI_inj (by omega) (by omega) hc) c0) (fun _ => ?_)
  refine lv_aload_n hx hb dJ0_copyOfRange_10 rfl (lv_at hl 0 rfl) ?_
  refine lv_iload_n hx hb dJ0_copyOfRange_11 rfl (lv_at hl 1 rfl) ?_
  refine lv_iload_n hx hb dJ0_copyOfRange_12 rfl (lv_at hl 2 rfl) ?_
  refine va_callr (va_runS (As := [.ref v, .int 0, .int (nI n)]) (rest := []) ⟨hx, hb, hml, hown, hts⟩ (mJ0_copyOfRangeByte l D J z aK aV v n cap N f hn hcap hfit) (va_cwS 3 hts (lw_S q1017 q1018 q135 q1019) rfl rfl rfl (by decide +kernel) ⟨Nat.le_of_ble_eq_true rfl, Nat.le_of_ble_eq_true rfl⟩) ⟨fun _ U g mk q => ⟨q.1, q.2.1, q.2.2.go (State.WarmedH.refl U) (fun _ _ _ => rfl)⟩, fun U hU hW => ⟨rfl, by rw [hU]; exact ⟨hN, ha⟩, hE.go hW (fun _ _ _ => by rw [hU])⟩⟩ rfl rfl hl.1 rfl (lv_room (Nat.le_of_ble_eq_true rfl)) dJ0_copyOfRange_13 ⟨Nat.le_of_ble_eq_true rfl, by show 0 + n ≤ n; omega⟩) (va_S.rf (A := (fun x => N ≤ x))) (fun _ _ h => h) (fun _ h => h) (fun u9 r t H1 locs1 ht hvm hp hB hz1 hk1 hS => ?_)
  rw [ht] at hB
  exact W.widen (k := 1) (n := n) (by omega) (by omega) (W.aret hx hb B.returns (Or.inr ⟨_, rfl⟩) (Or.inr ⟨_, rfl⟩) (fun t ht hW => ⟨⟨(), _, rfl, trivial, hB.1, by rw [ht]; exact hB.2⟩, hS.F ht⟩) hS.2.2 dJ0_copyOfRange_16 B.notSynchronized)
