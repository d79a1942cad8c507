set_option maxRecDepth 100000
theorem nmB {s : State} {cA : ClassId} (h : va_RA s cA .byte) : s.vm.findClass "[B" = some cA := by
  have h1 : s.vm.findClass ("[" ++ FieldType.byte.toString) = some cA := h
  rwa [show "[" ++ FieldType.byte.toString = "[B" from by decide] at h1
def hsh (f : Nat → Int32) : Nat → Int32
  | 0 => 0
  | n + 1 => 31 * hsh f n + (f n &&& 255)
set_option maxHeartbeats 4000000 in
theorem mJ8_signedHashCode : ∀ (l : Launch) (v n : Nat) (f : Nat → Int32), Met l yJ8_signedHashCode (ws_ yJ8_signedHashCode cJ8_signedHashCode 6 (some .int)) ({ frames := 1, cells := 0, slots := 0, locals := 40 }) (va_Pc [.int 0, .ref v, .int 0, .int (nI n)] (fun U => BA U U.heap v n f)) (va_Qi (fun (x : Int32) (_ : Unit) => x = hsh f n) (fun _ _ => True) (fun _ => False)) 0 0 (fun _ => False) := by
  intro l v n f
  refine Met.ofW (cc := cJ8_signedHashCode) (maxL := 6) (ret := some .int) (by decide) rfl ?_
  intro p e s m args below meth c s₁ B hml hv
  obtain ⟨rfl, ha⟩ := hv
  have hts := atoms_spec (ws := ws_ yJ8_signedHashCode cJ8_signedHashCode 6 (some .int)) B.pre
  have hts : ∀ w ∈ lw_all, w.before _ s = true := fun w h => hts w (List.mem_cons_of_mem _ h)
  have hown : s.vm.findClass RJ8 = some m.cls := findClass_of_methodNamed B.named
  have hl := lv_entry [.int 0, .ref v, .int 0, .int (nI n)] (n := 6) (Nat.le_of_ble_eq_true rfl)
  rw [lg_entry_eq]
  generalize (lg_sl [.int 0, .ref v, .int 0, .int (nI n)] ++ List.replicate (6 - (lg_sl [.int 0, .ref v, .int 0, .int (nI n)]).length) Slot.unset).toArray = ls at hl ⊢
  have hl : lv_has ls 6 [(0, .int (0 : Int32)), (1, .ref v), (2, .int (0 : Int32)), (3, .int (nI n))] := hl
  have hx := B.exec
  have hb := B.bytes
  have hn := ha.choose_spec.2.2.2.2.2.2
  refine lv_iload_n hx hb dJ8_signedHashCode_0 rfl (lv_at hl 2 rfl) ?_
  refine lv_iload_n hx hb dJ8_signedHashCode_1 rfl (lv_at hl 3 rfl) ?_
  refine lv_iadd hx hb dJ8_signedHashCode_2 ?_
  rw [Int32.zero_add]
  refine lv_istore (lv' := [(4, .int (nI n)), (0, .int (0 : Int32)), (1, .ref v), (2, .int (0 : Int32)), (3, .int (nI n))]) hx hb dJ8_signedHashCode_3 hl (by decide) rfl (fun ls hl => ?_)
  refine lv_iload_n hx hb dJ8_signedHashCode_5 rfl (lv_at hl 3 rfl) ?_
  refine lv_istore (lv' := [(5, .int (0 : Int32)), (4, .int (nI n)), (0, .int (0 : Int32)), (1, .ref v), (2, .int (0 : Int32)), (3, .int (nI n))]) hx hb dJ8_signedHashCode_6 hl (by decide) rfl (fun ls hl => ?_)
  have loop : ∀ (k i : Nat) (ls : Array Slot), i + k = n → lv_has ls 6 [(0, .int (hsh f i)), (5, .int (nI i)), (4, .int (nI n)), (1, .ref v), (2, .int (0 : Int32)), (3, .int (nI n))] → W p l e ({ frames := 1, cells := 0, slots := 0, locals := 40 } : Room) s m #[Value.int 0, Value.ref v, Value.int 0, Value.int (nI n)] below meth c s.heap [] 0 0 (MQ below (va_Qi (fun (x : Int32) (_ : Unit) => x = hsh f n) (fun _ _ => True) (fun _ => False)) #[Value.int 0, Value.ref v, Value.int 0, Value.int (nI n)] s 0 0 (fun _ => False)) (F0 m 8 ls []) := by
    intro k
    induction k with
    | zero =>
      intro i ls hik hl
      obtain rfl : i = n := by omega
      refine lv_iload hx hb dJ8_signedHashCode_8 (lv_at hl 1 rfl) ?_
      refine lv_iload hx hb dJ8_signedHashCode_10 (lv_at hl 2 rfl) ?_
      refine lv_icmp_ge (tgt := 35) hx hb dJ8_signedHashCode_12 (by decide) (fun _ => ?_) (fun hc => absurd (nI_le (Nat.le_refl _) (by omega)) hc)
      refine lv_iload_n hx hb dJ8_signedHashCode_35 rfl (lv_at hl 0 rfl) ?_
      exact W.iret B.exec B.bytes B.returns (fun t ht hW => ⟨⟨_, (), rfl, rfl, trivial⟩, (va_S.rf (A := fun _ => False) (H0 := s.heap)).F ht⟩) (fun _ h => nomatch h) dJ8_signedHashCode_36 B.notSynchronized
    | succ k ih =>
      intro i ls hik hl
      refine lv_iload hx hb dJ8_signedHashCode_8 (lv_at hl 1 rfl) ?_
      refine lv_iload hx hb dJ8_signedHashCode_10 (lv_at hl 2 rfl) ?_
      refine lv_icmp_ge (tgt := 35) hx hb dJ8_signedHashCode_12 (by decide) (fun hc => absurd hc (nI_ge (by omega) (by omega))) (fun _ => ?_)
      refine lv_bipush (v := (31 : Int32)) hx hb dJ8_signedHashCode_15 (by decide) ?_
      refine lv_iload_n hx hb dJ8_signedHashCode_17 rfl (lv_at hl 0 rfl) ?_
      refine lv_imul hx hb dJ8_signedHashCode_18 ?_
      refine lv_aload_n hx hb dJ8_signedHashCode_19 rfl (lv_at hl 3 rfl) ?_
      refine lv_iload hx hb dJ8_signedHashCode_20 (lv_at hl 1 rfl) ?_
      refine sbald hx hb ha (show i < n by omega) dJ8_signedHashCode_22 ?_
      refine lv_sipush (v := (255 : Int32)) hx hb dJ8_signedHashCode_23 (by decide) ?_
      refine lv_iand hx hb dJ8_signedHashCode_26 ?_
      refine lv_iadd hx hb dJ8_signedHashCode_27 ?_
      rw [show (31 : Int32) * hsh f i + (f i &&& 255) = hsh f (i + 1) from rfl]
      refine lv_istore_n (lv' := [(0, .int (hsh f (i + 1))), (5, .int (nI i)), (4, .int (nI n)), (1, .ref v), (2, .int (0 : Int32)), (3, .int (nI n))]) hx hb dJ8_signedHashCode_28 rfl hl (by decide) rfl (fun ls hl => ?_)
      refine lv_iinc (v := nI (i + 1)) (lv' := [(5, .int (nI (i + 1))), (0, .int (hsh f (i + 1))), (4, .int (nI n)), (1, .ref v), (2, .int (0 : Int32)), (3, .int (nI n))]) hx hb dJ8_signedHashCode_29 hl (k := 1) rfl (nI_1 i) (by decide) rfl (fun ls hl => ?_)
      refine lv_goto (tgt := 8) hx hb dJ8_signedHashCode_32 (by decide) ?_
      exact ih (i + 1) ls (by omega) (lv_sub hl [1, 0, 2, 3, 4, 5] rfl)
  exact loop n 0 ls (Nat.zero_add n) (lv_sub hl [2, 0, 1, 3, 4, 5] rfl)
set_option maxHeartbeats 4000000 in
theorem mJ8_vectorizedHashCode : ∀ (l : Launch) (D : va_G) (J : Nat → ClassId) (z : Nat) (aK aV : Nat → Nat) (v n : Nat) (f : Nat → Int32), n < 2 ^ 31 → Met l yJ8_vectorizedHashCode (ws_ yJ8_vectorizedHashCode cJ8_vectorizedHashCode 5 (some .int)) ({ frames := 2, cells := 0, slots := 0, locals := 100 }) (va_Pc [.ref v, .int 0, .int (nI n), .int 0, .int 4] (fun U => va_at D vwC (v, .inl (J 2, n, .inl f)) U.heap ∧ EC D J z aK aV U)) (va_Qi (fun (x : Int32) (_ : Unit) => x = hsh f n) (fun _ _ => True) (fun _ => False)) 0 0 (fun _ => False) := by
  intro l D J z aK aV v n f hn
  refine Met.ofW (cc := cJ8_vectorizedHashCode) (maxL := 5) (ret := some .int) (by decide) rfl ?_
  intro p e s m args below meth c s₁ B hml hv
  obtain ⟨rfl, ha, hE⟩ := hv
  have hts := atoms_spec (ws := ws_ yJ8_vectorizedHashCode cJ8_vectorizedHashCode 5 (some .int)) B.pre
  have hts : ∀ w ∈ lw_all, w.before _ s = true := fun w h => hts w (List.mem_cons_of_mem _ h)
  have hown : s.vm.findClass RJ8 = some m.cls := findClass_of_methodNamed B.named
  have hl := lv_entry [.ref v, .int 0, .int (nI n), .int 0, .int 4] (n := 5) (Nat.le_of_ble_eq_true rfl)
  rw [lg_entry_eq]
  generalize (lg_sl [.ref v, .int 0, .int (nI n), .int 0, .int 4] ++ List.replicate (5 - (lg_sl [.ref v, .int 0, .int (nI n), .int 0, .int 4]).length) Slot.unset).toArray = ls at hl ⊢
  have hl : lv_has ls 5 [(0, .ref v), (1, .int (0 : Int32)), (2, .int (nI n)), (3, .int (0 : Int32)), (4, .int (4 : Int32))] := hl
  have hx := B.exec
  have hb := B.bytes
  refine lv_iload hx hb dJ8_vectorizedHashCode_0 (lv_at hl 4 rfl) ?_
  refine lv_tableIn (off := 42) (tgt := 44) hx hb dJ8_vectorizedHashCode_2 (by decide) (by decide) rfl (by decide) ?_
  refine lv_iload_n hx hb dJ8_vectorizedHashCode_44 rfl (lv_at hl 3 rfl) ?_
  refine lv_aload_n hx hb dJ8_vectorizedHashCode_45 rfl (lv_at hl 0 rfl) ?_
  refine va_castA hx hb hown (hts _ q1237) (va_P1 ha) 0 rfl (nmB (hE.1.2 2 _ rfl).2) dJ8_vectorizedHashCode_46 ?_
  refine lv_iload_n hx hb dJ8_vectorizedHashCode_49 rfl (lv_at hl 1 rfl) ?_
  refine lv_iload_n hx hb dJ8_vectorizedHashCode_50 rfl (lv_at hl 2 rfl) ?_
  refine va_calli (va_runS (As := [.int 0, .ref v, .int 0, .int (nI n)]) (rest := []) ⟨hx, hb, hml, hown, hts⟩ (mJ8_signedHashCode l v n f) (va_cwS 4 hts (lw_S q1238 q1239 q149 q1240) rfl rfl rfl (by decide +kernel) ⟨Nat.le_of_ble_eq_true rfl, Nat.le_of_ble_eq_true rfl⟩) ⟨fun _ U g mk q => ⟨q.1, q.2.mv (Vm.Alike.refl _) rfl⟩, fun U hU hW => ⟨rfl, by show BA U U.heap v n f; rw [hU]; exact (BA.of hE.1 ha hn).mv hW.alike rfl⟩⟩ rfl rfl hl.1 rfl (lv_room (Nat.le_of_ble_eq_true rfl)) dJ8_vectorizedHashCode_51 ⟨Nat.le_of_ble_eq_true rfl, Nat.le_of_ble_eq_true rfl⟩) (va_S.rf (A := fun _ => False)) (fun _ _ h => h) (fun _ h => h) (fun r u t H1 locs1 ht hvm hp hB hz1 hk1 hS => ?_)
  refine lv_goto (tgt := 157) hx hb dJ8_vectorizedHashCode_54 (by decide) ?_
  exact W.iret B.exec B.bytes B.returns (fun t ht hW => ⟨⟨r, (), rfl, hp, trivial⟩, hS.F ht⟩) hS.2.2 dJ8_vectorizedHashCode_157 B.notSynchronized
set_option maxHeartbeats 4000000 in
theorem mJ10_hashCode : ∀ (l : Launch) (D : va_G) (J : Nat → ClassId) (z : Nat) (aK aV : Nat → Nat) (v n : Nat) (f : Nat → Int32), n < 2 ^ 31 → Met l yJ10_hashCode (ws_ yJ10_hashCode cJ10_hashCode 1 (some .int)) ({ frames := 3, cells := 0, slots := 0, locals := 200 }) (va_Pc [.ref v] (fun U => va_at D vwC (v, .inl (J 2, n, .inl f)) U.heap ∧ EC D J z aK aV U)) (va_Qi (fun (x : Int32) (_ : Unit) => x = hsh f n) (fun _ _ => True) (fun _ => False)) 0 0 (fun _ => False) := by
  intro l D J z aK aV v n f hn
  refine Met.ofW (cc := cJ10_hashCode) (maxL := 1) (ret := some .int) (by decide) rfl ?_
  intro p e s m args below meth c s₁ B hml hv
  obtain ⟨rfl, ha, hE⟩ := hv
  have hts := atoms_spec (ws := ws_ yJ10_hashCode cJ10_hashCode 1 (some .int)) B.pre
  have hts : ∀ w ∈ lw_all, w.before _ s = true := fun w h => hts w (List.mem_cons_of_mem _ h)
  have hown : s.vm.findClass RJ10 = some m.cls := findClass_of_methodNamed B.named
  have hl := lv_entry [.ref v] (n := 1) (Nat.le_of_ble_eq_true rfl)
  rw [lg_entry_eq]
  generalize (lg_sl [.ref v] ++ List.replicate (1 - (lg_sl [.ref v]).length) Slot.unset).toArray = ls at hl ⊢
  have hl : lv_has ls 1 [(0, .ref v)] := hl
  have hx := B.exec
  have hb := B.bytes
  have hba := BA.of hE.1 ha hn
  refine lv_aload_n hx hb dJ10_hashCode_0 rfl (lv_at hl 0 rfl) ?_
  refine salen hx hb hba dJ10_hashCode_1 ?_
  by_cases c0 : n = 0
  · subst c0
    refine lv_lookup (off := 26) (tgt := 28) hx hb dJ10_hashCode_2 rfl rfl (by decide) ?_
    refine lv_iconst (v := (0 : Int32)) hx hb dJ10_hashCode_28 (by decide) ?_
    refine lv_goto (tgt := 51) hx hb dJ10_hashCode_29 (by decide) ?_
    exact W.iret B.exec B.bytes B.returns (fun t ht hW => ⟨⟨_, (), rfl, rfl, trivial⟩, (va_S.rf (A := fun _ => False) (H0 := s.heap)).F ht⟩) (fun _ h => nomatch h) dJ10_hashCode_51 B.notSynchronized
  by_cases c1 : n = 1
  · subst c1
    refine lv_lookup (off := 30) (tgt := 32) hx hb dJ10_hashCode_2 rfl rfl (by decide) ?_
    refine lv_aload_n hx hb dJ10_hashCode_32 rfl (lv_at hl 0 rfl) ?_
    refine lv_iconst (v := (0 : Int32)) hx hb dJ10_hashCode_33 (by decide) ?_
    refine sbald (i := 0) hx hb hba (by decide) dJ10_hashCode_34 ?_
    refine lv_sipush (v := (255 : Int32)) hx hb dJ10_hashCode_35 (by decide) ?_
    refine lv_iand hx hb dJ10_hashCode_38 ?_
    refine lv_goto (tgt := 51) hx hb dJ10_hashCode_39 (by decide) ?_
    have e1 : hsh f 1 = f 0 &&& 255 := by
      show 31 * 0 + (f 0 &&& 255) = _
      rw [Int32.mul_zero, Int32.zero_add]
    exact W.iret B.exec B.bytes B.returns (fun t ht hW => ⟨⟨_, (), rfl, e1.symm, trivial⟩, (va_S.rf (A := fun _ => False) (H0 := s.heap)).F ht⟩) (fun _ h => nomatch h) dJ10_hashCode_51 B.notSynchronized
  have hlk : Op.lookupswitch.offset [((0 : Int), (26 : Int)), (1, 30)] 40 (nI n).toInt = 40 := by
    rw [nI_toInt hn]
    rw [Op.lookupswitch.offset_cons, if_neg (by omega), Op.lookupswitch.offset_cons, if_neg (by omega)]
    rfl
  refine lv_lookup (off := 40) (tgt := 42) hx hb dJ10_hashCode_2 rfl hlk (by decide) ?_
  refine lv_aload_n hx hb dJ10_hashCode_42 rfl (lv_at hl 0 rfl) ?_
  refine lv_iconst (v := (0 : Int32)) hx hb dJ10_hashCode_43 (by decide) ?_
  refine lv_aload_n hx hb dJ10_hashCode_44 rfl (lv_at hl 0 rfl) ?_
  refine salen hx hb hba dJ10_hashCode_45 ?_
  refine lv_iconst (v := (0 : Int32)) hx hb dJ10_hashCode_46 (by decide) ?_
  refine lv_iconst (v := (4 : Int32)) hx hb dJ10_hashCode_47 (by decide) ?_
  refine va_calli (va_runS (As := [.ref v, .int 0, .int (nI n), .int 0, .int 4]) (rest := []) ⟨hx, hb, hml, hown, hts⟩ (mJ8_vectorizedHashCode l D J z aK aV v n f hn) (va_cwS 5 hts (lw_S q1234 q1235 q149 q1236) rfl rfl rfl (by decide +kernel) ⟨Nat.le_of_ble_eq_true rfl, Nat.le_of_ble_eq_true rfl⟩) ⟨fun _ U g mk q => ⟨q.1, q.2.1, q.2.2.go (State.WarmedH.refl U) (fun _ _ _ => rfl)⟩, fun U hU hW => ⟨rfl, by rw [hU]; exact ha, hE.go hW (fun q _ _ => by rw [hU])⟩⟩ rfl rfl hl.1 rfl (lv_room (Nat.le_of_ble_eq_true rfl)) dJ10_hashCode_48 ⟨Nat.le_of_ble_eq_true rfl, Nat.le_of_ble_eq_true rfl⟩) (va_S.rf (A := fun _ => False)) (fun _ _ h => h) (fun _ h => h) (fun r u t H1 locs1 ht hvm hp hB hz1 hk1 hS => ?_)
  exact W.iret B.exec B.bytes B.returns (fun t ht hW => ⟨⟨r, (), rfl, hp, trivial⟩, hS.F ht⟩) hS.2.2 dJ10_hashCode_51 B.notSynchronized
set_option maxHeartbeats 4000000 in
theorem mJ6_isLatin1s : ∀ (l : Launch) (D : va_G) (J : Nat → ClassId) (z : Nat) (aK aV : Nat → Nat) (a va n : Nat) (f : Nat → Int32), Met l yJ6_isLatin1 (ws_ yJ6_isLatin1 cJ6_isLatin1 1 (some .boolean)) ({ frames := 1, cells := 0, slots := 0, locals := 40 }) (va_Pc [.ref a] (fun U => SP U U.heap a va n f ∧ EC D J z aK aV U)) (va_Qi (fun (x : Int32) (_ : Unit) => x = 1) (fun _ _ => True) (fun _ => False)) 0 0 (fun _ => False) := by
  intro l D J z aK aV a va n f
  refine Met.ofW (cc := cJ6_isLatin1) (maxL := 1) (ret := some .boolean) (by decide) rfl ?_
  intro p e s m args below meth c s₁ B hml hv
  obtain ⟨rfl, ha, hE⟩ := hv
  have hts := atoms_spec (ws := ws_ yJ6_isLatin1 cJ6_isLatin1 1 (some .boolean)) B.pre
  have hts : ∀ w ∈ lw_all, w.before _ s = true := fun w h => hts w (List.mem_cons_of_mem _ h)
  have hown : s.vm.findClass RJ6 = some m.cls := findClass_of_methodNamed B.named
  have hl := lv_entry [.ref a] (n := 1) (Nat.le_of_ble_eq_true rfl)
  rw [lg_entry_eq]
  generalize (lg_sl [.ref a] ++ List.replicate (1 - (lg_sl [.ref a]).length) Slot.unset).toArray = ls at hl ⊢
  have hl : lv_has ls 1 [(0, .ref a)] := hl
  have hx := B.exec
  have hb := B.bytes
  refine va_gets (A := zZ z) hx hb hE.2.1.2.2.1 va_S.rf hown (hts _ q1127) (fun _ h => h) dJ6_isLatin1_0 ?_
  refine lv_if_eq (tgt := 17) hx hb dJ6_isLatin1_3 (by decide) (fun hc => absurd hc (by decide)) (fun _ => ?_)
  refine lv_aload_n hx hb dJ6_isLatin1_6 rfl (lv_at hl 0 rfl) ?_
  refine sgetf hx hb hts hown ha.2.2.1 q1183 dJ6_isLatin1_7 ?_
  refine lv_if_ne (tgt := 17) hx hb dJ6_isLatin1_10 (by decide) (fun hc => absurd rfl hc) (fun _ => ?_)
  refine lv_iconst (v := (1 : Int32)) hx hb dJ6_isLatin1_13 (by decide) ?_
  refine lv_goto (tgt := 18) hx hb dJ6_isLatin1_14 (by decide) ?_
  exact W.zret B.exec B.bytes B.returns (by rfl) (fun t ht hW => ⟨⟨_, (), rfl, rfl, trivial⟩, (va_S.rf (A := fun _ => False) (H0 := s.heap)).F ht⟩) (fun _ h => nomatch h) dJ6_isLatin1_18 B.notSynchronized
theorem SP.of {s : State} {D : va_G} {J : Nat → ClassId} {H : Heap} {a va n : Nat} {f : Nat → Int32} {h0 z0 : Value} {args : Array Value} (hts : ∀ w ∈ lw_all, w.before args s = true) (hK : va_K D vwC (tysC J) s) (ha : va_at D vwC (a, .inr (16, [.ref va, .int 0, h0, z0])) H) (hv : va_at D vwC (va, .inl (J 2, n, .inl f)) H) (hn : n < 2 ^ 31) : SP s H a va n f := by
  refine ⟨g_recv hK ha rfl, ?_, ?_, BA.of hK hv hn⟩
  · obtain ⟨r, h1, cell, q1, q2, q3, q4⟩ := ha
    cases h1
    obtain ⟨hS, hfc, kC, hkC, hkind⟩ := hK.1 16 _ rfl
    obtain ⟨cf, kf, fi, f9, hi, hsl⟩ := hS 0 (by decide)
    exact ⟨cf, kf, fi, f9, cell, hi, (u_facts hfc hkC (u_lays hts in_J6 (by decide)) hi).1, q1, by rw [q3]; exact fun h => (by cases h), by rw [hsl]; exact q4 0 (by decide)⟩
  · obtain ⟨r, h1, cell, q1, q2, q3, q4⟩ := ha
    cases h1
    obtain ⟨hS, hfc, kC, hkC, hkind⟩ := hK.1 16 _ rfl
    obtain ⟨cf, kf, fi, f9, hi, hsl⟩ := hS 1 (by decide)
    exact ⟨cf, kf, fi, f9, cell, hi, (u_facts hfc hkC (u_lays hts in_J6 (by decide)) hi).1, q1, by rw [q3]; exact fun h => (by cases h), by rw [hsl]; exact q4 1 (by decide)⟩
set_option maxHeartbeats 4000000 in
theorem mJ6_hashCode : ∀ (l : Launch) (D : va_G) (J : Nat → ClassId) (z : Nat) (aK aV : Nat → Nat) (a va n : Nat) (f : Nat → Int32), n < 2 ^ 31 → va ≠ a → z ≤ a → Met l yJ6_hashCode (ws_ yJ6_hashCode cJ6_hashCode 2 (some .int)) ({ frames := 4, cells := 0, slots := 0, locals := 300 }) (va_Pc [.ref a] (fun U => (va_at D vwC (a, .inr (16, [.ref va, .int 0, .int 0, .int 0])) U.heap ∧ va_at D vwC (va, .inl (J 2, n, .inl f)) U.heap) ∧ EC D J z aK aV U)) (va_Qi (fun (x : Int32) (_ : Unit) => x = hsh f n) (fun _ t => (∃ h0 z0 : Int32, va_at D vwC (a, .inr (16, [.ref va, .int 0, .int h0, .int z0])) t.heap) ∧ va_at D vwC (va, .inl (J 2, n, .inl f)) t.heap) (fun q => q = a)) 0 0 (fun q => q = a) := by
  intro l D J z aK aV a va n f hn hva hza
  refine Met.ofW (cc := cJ6_hashCode) (maxL := 2) (ret := some .int) (by decide) rfl ?_
  intro p e s m args below meth c s₁ B hml hv
  obtain ⟨rfl, ⟨ha, hv⟩, hE⟩ := hv
  have hts := atoms_spec (ws := ws_ yJ6_hashCode cJ6_hashCode 2 (some .int)) B.pre
  have hts : ∀ w ∈ lw_all, w.before _ s = true := fun w h => hts w (List.mem_cons_of_mem _ h)
  have hown : s.vm.findClass RJ6 = some m.cls := findClass_of_methodNamed B.named
  have hl := lv_entry [.ref a] (n := 2) (Nat.le_of_ble_eq_true rfl)
  rw [lg_entry_eq]
  generalize (lg_sl [.ref a] ++ List.replicate (2 - (lg_sl [.ref a]).length) Slot.unset).toArray = ls at hl ⊢
  have hl : lv_has ls 2 [(0, .ref a)] := hl
  have hx := B.exec
  have hb := B.bytes
  refine lv_aload_n hx hb dJ6_hashCode_0 rfl (lv_at hl 0 rfl) ?_
  refine gget hx hb hts in_J6 hown hE.1 ha rfl 2 (by decide) q1184 rfl dJ6_hashCode_1 ?_
  refine lv_istore_n (lv' := [(1, .int (0 : Int32)), (0, .ref a)]) hx hb dJ6_hashCode_4 rfl hl (by decide) rfl (fun ls hl => ?_)
  refine lv_iload_n hx hb dJ6_hashCode_5 rfl (lv_at hl 0 rfl) ?_
  refine lv_if_ne (tgt := 58) hx hb dJ6_hashCode_6 (by decide) (fun hc => absurd rfl hc) (fun _ => ?_)
  refine lv_aload_n hx hb dJ6_hashCode_9 rfl (lv_at hl 1 rfl) ?_
  refine gget hx hb hts in_J6 hown hE.1 ha rfl 3 (by decide) q1185 rfl dJ6_hashCode_10 ?_
  refine lv_if_ne (tgt := 58) hx hb dJ6_hashCode_13 (by decide) (fun hc => absurd rfl hc) (fun _ => ?_)
  refine lv_aload_n hx hb dJ6_hashCode_16 rfl (lv_at hl 1 rfl) ?_
  have hsp : SP s s.heap a va n f := SP.of hts hE.1 ha hv hn
  refine va_calli (va_runV (As := []) (rest := []) ⟨hx, hb, hml, hown, hts⟩ (mJ6_isLatin1s l D J z aK aV a va n f) (cwV 0 hts (lw_V q1227 q1228 q1229 q147 q1230) rfl rfl rfl (by decide +kernel) ⟨Nat.le_of_ble_eq_true rfl, Nat.le_of_ble_eq_true rfl⟩) ⟨fun _ U g mk q => ⟨q.1, q.2.1.mv (Vm.Alike.refl _) rfl rfl, q.2.2.go (State.WarmedH.refl U) (fun _ _ _ => rfl)⟩, g_recv hE.1 ha rfl, fun U hU hW => ⟨rfl, by show SP U U.heap a va n f; rw [hU]; exact hsp.mv hW.alike rfl rfl, hE.go hW (fun q _ _ => by rw [hU])⟩⟩ rfl rfl hl.1 rfl (lv_room (Nat.le_of_ble_eq_true rfl)) dJ6_hashCode_17 ⟨Nat.le_of_ble_eq_true rfl, Nat.le_of_ble_eq_true rfl⟩) (va_S.rf (A := fun q => q = a)) (fun _ _ h => h.elim) (fun _ h => h.elim) (fun r u t H1 locs1 ht hvm hp hB hz1 hk1 hS => ?_)
  obtain rfl : r = 1 := hp
  replace ha := ha.kept (hk1 _ ha.lt id)
  replace hv := hv.kept (hk1 _ hv.lt id)
  clear hk1 hB hz1 ht hvm
  clear t
  refine lv_if_eq (tgt := 33) hx hb dJ6_hashCode_20 (by decide) (fun hc => absurd hc (by decide)) (fun _ => ?_)
  refine lv_aload_n hx hb dJ6_hashCode_23 rfl (lv_at hl 1 rfl) ?_
  refine gget hx hb hts in_J6 hown hE.1 ha rfl 0 (by decide) q1182 rfl dJ6_hashCode_24 ?_
  refine va_calli (va_runS (As := [.ref va]) (rest := []) ⟨hx, hb, hml, hown, hts⟩ (mJ10_hashCode l D J z aK aV va n f hn) (va_cwS 1 hts (lw_S q1231 q1232 q151 q1233) rfl rfl rfl (by decide +kernel) ⟨Nat.le_of_ble_eq_true rfl, Nat.le_of_ble_eq_true rfl⟩) ⟨fun _ U g mk q => ⟨q.1, q.2.1, q.2.2.go (State.WarmedH.refl U) (fun _ _ _ => rfl)⟩, fun U hU hW => ⟨rfl, by rw [hU]; exact hv, hE.go hW (fun q h1 h2 => by rw [hU]; exact hS.2.1 q h1 (fun e => h2 (by rw [e]; exact hza)))⟩⟩ rfl rfl hl.1 rfl (lv_room (Nat.le_of_ble_eq_true rfl)) dJ6_hashCode_27 ⟨Nat.le_of_ble_eq_true rfl, Nat.le_of_ble_eq_true rfl⟩) hS (fun _ _ h => h.elim) (fun _ h => h.elim) (fun r u t H2 locs2 ht hvm hp hB hz1 hk1 hS => ?_)
  obtain rfl : r = hsh f n := hp
  replace ha := ha.kept (hk1 _ ha.lt id)
  replace hv := hv.kept (hk1 _ hv.lt id)
  clear hk1 hB hz1 ht hvm
  clear t
  refine lv_goto (tgt := 40) hx hb dJ6_hashCode_30 (by decide) ?_
  refine lv_istore_n (lv' := [(1, .int (hsh f n)), (0, .ref a)]) hx hb dJ6_hashCode_40 rfl hl (by decide) rfl (fun ls hl => ?_)
  refine lv_iload_n hx hb dJ6_hashCode_41 rfl (lv_at hl 0 rfl) ?_
  by_cases c0 : hsh f n = 0
  ·
    refine lv_if_ne (tgt := 53) hx hb dJ6_hashCode_42 (by decide) (fun hc => absurd c0 hc) (fun _ => ?_)
    refine lv_aload_n hx hb dJ6_hashCode_45 rfl (lv_at hl 1 rfl) ?_
    refine lv_iconst (v := (1 : Int32)) hx hb dJ6_hashCode_46 (by decide) ?_
    refine gput hx hb hts in_J6 tyJ6 tyJ6_ok nmJ6 hown hE.1 ha rfl 3 (by decide) q1185 rfl (zb_n (Or.inr rfl)) (zb_f (Or.inr rfl)) (Nat.le_of_ble_eq_true rfl) dJ6_hashCode_47 (fun H3 locs3 h4 h5 h6 h7 => ?_)
    have hS := va_S.one hS (rfl : a = a) h5 h6 h7
    refine lv_goto (tgt := 58) hx hb dJ6_hashCode_50 (by decide) ?_
    refine lv_iload_n hx hb dJ6_hashCode_58 rfl (lv_at hl 0 rfl) ?_
    exact W.iret B.exec B.bytes B.returns (fun t ht hW => ⟨⟨_, (), rfl, rfl, by show (∃ h0 z0 : Int32, va_at D vwC (a, .inr (16, [.ref va, .int 0, .int h0, .int z0])) t.heap) ∧ va_at D vwC (va, .inl (J 2, n, .inl f)) t.heap; rw [ht]; exact ⟨⟨_, _, h4⟩, hv.kept (h6 _ hva)⟩⟩, hS.F ht⟩) hS.2.2 dJ6_hashCode_59 B.notSynchronized
  ·
    refine lv_if_ne (tgt := 53) hx hb dJ6_hashCode_42 (by decide) (fun _ => ?_) (fun hc => absurd hc c0)
    refine lv_aload_n hx hb dJ6_hashCode_53 rfl (lv_at hl 1 rfl) ?_
    refine lv_iload_n hx hb dJ6_hashCode_54 rfl (lv_at hl 0 rfl) ?_
    refine gput hx hb hts in_J6 tyJ6 tyJ6_ok nmJ6 hown hE.1 ha rfl 2 (by decide) q1184 rfl rfl rfl (Nat.le_of_ble_eq_true rfl) dJ6_hashCode_55 (fun H3 locs3 h4 h5 h6 h7 => ?_)
    have hS := va_S.one hS (rfl : a = a) h5 h6 h7
    refine lv_iload_n hx hb dJ6_hashCode_58 rfl (lv_at hl 0 rfl) ?_
    exact W.iret B.exec B.bytes B.returns (fun t ht hW => ⟨⟨_, (), rfl, rfl, by show (∃ h0 z0 : Int32, va_at D vwC (a, .inr (16, [.ref va, .int 0, .int h0, .int z0])) t.heap) ∧ va_at D vwC (va, .inl (J 2, n, .inl f)) t.heap; rw [ht]; exact ⟨⟨_, _, h4⟩, hv.kept (h6 _ hva)⟩⟩, hS.F ht⟩) hS.2.2 dJ6_hashCode_59 B.notSynchronized
