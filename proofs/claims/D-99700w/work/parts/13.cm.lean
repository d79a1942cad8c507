theorem cwX9_sumOf_X1 {R : Room} {s : State} {args : Array Value} {fr lo : Nat} (hts : ∀ w ∈ lw_all, w.before args s = true) (hR : fr + 1 ≤ R.frames ∧ 8 + (6 + 11) + lo ≤ R.locals) : CallW R s args RX1 RX9 394 yX9_sumOf cX9_sumOf 6 (some .int) (ws_ yX9_sumOf cX9_sumOf 6 (some .int)) ({ frames := fr, cells := 0, slots := 0, locals := lo }) 0 0 2 :=
  cwV 2 hts (lw_V q593 q594 q595 q161 q596) rfl rfl rfl (by decide +kernel) hR
section CROWS4
variable {p : Program} {l : Launch} {e : Env} {R : Room} {s : State} {m : MethodId} {args : Array Value} {below : List Frame} {meth : Method} {c : Code} {H : Heap} {locs : List Loc} {cells slots : Nat} {Q : State → Prop}
variable {cc : ByteArray} {pc : Nat} {ls : Array Slot} {rest : List Value} {D : va_G} {J : Nat → ClassId} {o z : Nat} {aK aV : Nat → Nat} {G Ld : Nat → Prop} {aF : Nat → Nat} {Λ : Nat → Nat → (Nat → Int32) → Int32} {Λn : Nat → Int32} {σ σ' : Cs}
theorem IC.zS (hI : IC D J o Ld s H locs σ) (hE : ECC D J o z aK aV G Ld aF Λ Λn s) : va_S (zZ z) s.heap H locs :=
  ⟨hI.2.1, fun q h1 h2 => hI.2.2.1 q h1 (fun h3 => h2 (Nat.le_trans hE.2.2.1 h3.1)), fun l hl => Nat.le_trans hE.2.2.1 (hI.2.2.2 l hl).1⟩
/-- Law.sumOf of a good law -/
theorem claw (hx : p.tables.exec = Jvm.exec) (hb : c.code = cc) (hts : ∀ w ∈ lw_all, w.before args s = true) (hown : s.vm.findClass RX1 = some m.cls) (hE : ECC D J o z aK aV G Ld aF Λ Λn s) (hI : IC D J o Ld s H locs σ) {nL : Nat} (hml : c.maxLocals = nL) (hlsz : ls.size = nL) {la kd : Nat} (hla : Ld la) (hkd : kd < 3) (h78 : (co σ 3 7 = 0 ∨ co σ 3 7 = 1) ∧ (co σ 3 8 = 0 ∨ co σ 3 8 = 1))
    (hR : 50 + 1 ≤ R.frames ∧ 2500 ≤ R.locals) (hc : cells ≤ R.cells ∧ slots ≤ R.slots) (hW : 2 * (F0 m pc ls (.ref (o + 63) :: .ref (aF (7 + kd)) :: .ref la :: rest)).monitorRoom + (rest.map fun v => v.category).sum ≤ 8) (hdg : decode cc pc = .ok (.invokevirtual 394, 3))
    (kk : ∀ (H1 : Heap) (locs1 : List Loc), IC D J o Ld s H1 locs1 σ → W p l e R s m args below meth c H1 locs1 cells slots Q (F0 m (pc + 3) ls (.int (Λ la kd (co σ 3)) :: rest))) : W p l e R s m args below meth c H locs cells slots Q (F0 m pc ls (.ref (o + 63) :: .ref (aF (7 + kd)) :: .ref la :: rest)) := by
  have hL : LawAt D J G aF la (Λ la) (Λn la) H := (hE.2.1.1 la hla).kept (fun q h1 h2 => hI.old q h1 (hE.2.1.2 q h2))
  obtain ⟨-, lst, n, els, kd', nn, ww, h1, -⟩ := id hL
  refine rcallI (As := [.ref (aF (7 + kd)), .ref (o + 63)]) (rest := rest) hx hb hts hown hml hlsz (mX9_sumOf D J z aK aV aF (o + 63) (co σ 3) G la kd hkd (Λ la) (Λn la)) (cwX9_sumOf_X1 hts ⟨Nat.le_trans (Nat.le_of_ble_eq_true rfl) hR.1, Nat.le_trans (Nat.le_of_ble_eq_true rfl) hR.2⟩) LX.keep.and (g_recv hE.1.1 h1 rfl) (fun U hU hW => ?_) hc rfl rfl hW hdg (kk H locs hI)
  have hE2 := hI.env hE hU hW
  exact ⟨⟨hE2.1, hE2.2.2.2.1, hE2.2.2.2.2, by rw [hU]; exact hI.1.o 3 rfl, h78.1, h78.2⟩, by rw [hU]; exact hL⟩
end CROWS4

def J16_bitCount (a0 : Int32) : Option (Int32) :=
  (some (a0 - ((a0.toUInt32 >>> ((1 : Int32).toUInt32 &&& Int32.toUInt32 31)).toInt32 &&& (1431655765 : Int32)))).bind fun v9 =>
  (some ((v9 &&& (858993459 : Int32)) + ((v9.toUInt32 >>> ((2 : Int32).toUInt32 &&& Int32.toUInt32 31)).toInt32 &&& (858993459 : Int32)))).bind fun v23 =>
  (some ((v23 + (v23.toUInt32 >>> ((4 : Int32).toUInt32 &&& Int32.toUInt32 31)).toInt32) &&& (252645135 : Int32))).bind fun v33 =>
  (some (v33 + (v33.toUInt32 >>> ((8 : Int32).toUInt32 &&& Int32.toUInt32 31)).toInt32)).bind fun v40 =>
  (some (v40 + (v40.toUInt32 >>> ((16 : Int32).toUInt32 &&& Int32.toUInt32 31)).toInt32)).bind fun v47 =>
  some (v47 &&& (63 : Int32))
set_option maxHeartbeats 4000000 in
theorem mJ16_bitCount (a0 : Int32) (r : Int32) (hf : J16_bitCount a0 = some r) : SMi yJ16_bitCount cJ16_bitCount 1 (some .int) 1 40 [.int a0] r := by
  refine SMi.of (by decide) (Nat.le_of_ble_eq_true rfl) ?_
  intro p l e s m args below meth c Q ls hx hb hml hown hts hret hl
  have hl : lv_has ls 1 [(0, .int a0)] := hl
  unfold J16_bitCount at hf
  refine lv_iload_n hx hb dJ16_bitCount_0 rfl (lv_at hl 0 rfl) ?_
  refine lv_iload_n hx hb dJ16_bitCount_1 rfl (lv_at hl 0 rfl) ?_
  refine lv_iconst (v := (1 : Int32)) hx hb dJ16_bitCount_2 (by decide) ?_
  refine lv_iushr (v := (a0.toUInt32 >>> ((1 : Int32).toUInt32 &&& Int32.toUInt32 31)).toInt32) hx hb dJ16_bitCount_3 rfl ?_
  refine lv_ldcw hx hb hown (hts _ q725) dJ16_bitCount_4 ?_
  refine lv_iand hx hb dJ16_bitCount_7 ?_
  refine lv_isub hx hb dJ16_bitCount_8 ?_
  obtain ⟨v9, ev9, hf⟩ := obd hf
  refine nmI ev9 ?_
  refine lv_istore_n (lv' := [(0, .int v9)]) hx hb dJ16_bitCount_9 rfl hl (by decide) rfl (fun ls hl => ?_)
  refine lv_iload_n hx hb dJ16_bitCount_10 rfl (lv_at hl 0 rfl) ?_
  refine lv_ldcw hx hb hown (hts _ q726) dJ16_bitCount_11 ?_
  refine lv_iand hx hb dJ16_bitCount_14 ?_
  refine lv_iload_n hx hb dJ16_bitCount_15 rfl (lv_at hl 0 rfl) ?_
  refine lv_iconst (v := (2 : Int32)) hx hb dJ16_bitCount_16 (by decide) ?_
  refine lv_iushr (v := (v9.toUInt32 >>> ((2 : Int32).toUInt32 &&& Int32.toUInt32 31)).toInt32) hx hb dJ16_bitCount_17 rfl ?_
  refine lv_ldcw hx hb hown (hts _ q726) dJ16_bitCount_18 ?_
  refine lv_iand hx hb dJ16_bitCount_21 ?_
  refine lv_iadd hx hb dJ16_bitCount_22 ?_
  obtain ⟨v23, ev23, hf⟩ := obd hf
  refine nmI ev23 ?_
  refine lv_istore_n (lv' := [(0, .int v23)]) hx hb dJ16_bitCount_23 rfl hl (by decide) rfl (fun ls hl => ?_)
  refine lv_iload_n hx hb dJ16_bitCount_24 rfl (lv_at hl 0 rfl) ?_
  refine lv_iload_n hx hb dJ16_bitCount_25 rfl (lv_at hl 0 rfl) ?_
  refine lv_iconst (v := (4 : Int32)) hx hb dJ16_bitCount_26 (by decide) ?_
  refine lv_iushr (v := (v23.toUInt32 >>> ((4 : Int32).toUInt32 &&& Int32.toUInt32 31)).toInt32) hx hb dJ16_bitCount_27 rfl ?_
  refine lv_iadd hx hb dJ16_bitCount_28 ?_
  refine lv_ldcw hx hb hown (hts _ q727) dJ16_bitCount_29 ?_
  refine lv_iand hx hb dJ16_bitCount_32 ?_
  obtain ⟨v33, ev33, hf⟩ := obd hf
  refine nmI ev33 ?_
  refine lv_istore_n (lv' := [(0, .int v33)]) hx hb dJ16_bitCount_33 rfl hl (by decide) rfl (fun ls hl => ?_)
  refine lv_iload_n hx hb dJ16_bitCount_34 rfl (lv_at hl 0 rfl) ?_
  refine lv_iload_n hx hb dJ16_bitCount_35 rfl (lv_at hl 0 rfl) ?_
  refine lv_bipush (v := (8 : Int32)) hx hb dJ16_bitCount_36 (by decide) ?_
  refine lv_iushr (v := (v33.toUInt32 >>> ((8 : Int32).toUInt32 &&& Int32.toUInt32 31)).toInt32) hx hb dJ16_bitCount_38 rfl ?_
  refine lv_iadd hx hb dJ16_bitCount_39 ?_
  obtain ⟨v40, ev40, hf⟩ := obd hf
  refine nmI ev40 ?_
  refine lv_istore_n (lv' := [(0, .int v40)]) hx hb dJ16_bitCount_40 rfl hl (by decide) rfl (fun ls hl => ?_)
  refine lv_iload_n hx hb dJ16_bitCount_41 rfl (lv_at hl 0 rfl) ?_
  refine lv_iload_n hx hb dJ16_bitCount_42 rfl (lv_at hl 0 rfl) ?_
  refine lv_bipush (v := (16 : Int32)) hx hb dJ16_bitCount_43 (by decide) ?_
  refine lv_iushr (v := (v40.toUInt32 >>> ((16 : Int32).toUInt32 &&& Int32.toUInt32 31)).toInt32) hx hb dJ16_bitCount_45 rfl ?_
  refine lv_iadd hx hb dJ16_bitCount_46 ?_
  obtain ⟨v47, ev47, hf⟩ := obd hf
  refine nmI ev47 ?_
  refine lv_istore_n (lv' := [(0, .int v47)]) hx hb dJ16_bitCount_47 rfl hl (by decide) rfl (fun ls hl => ?_)
  refine lv_iload_n hx hb dJ16_bitCount_48 rfl (lv_at hl 0 rfl) ?_
  refine lv_bipush (v := (63 : Int32)) hx hb dJ16_bitCount_49 (by decide) ?_
  refine lv_iand hx hb dJ16_bitCount_51 ?_
  have hf := Option.some.inj hf
  rw [hf]
  exact hret 52 ls dJ16_bitCount_52


def J16_numberOfTrailingZeros_J62 (x0 : Int32) (x1 : Int32) : Option (Int32) :=
  if x0 ≤ (4 : Int32) then
    some (x1 + (x0.toUInt32 >>> ((1 : Int32).toUInt32 &&& Int32.toUInt32 31)).toInt32)
  else
    (some (x1 + (2 : Int32))).bind fun v67 =>
    (some ((x0.toUInt32 >>> ((2 : Int32).toUInt32 &&& Int32.toUInt32 31)).toInt32)).bind fun v73 =>
    some (v67 + (v73.toUInt32 >>> ((1 : Int32).toUInt32 &&& Int32.toUInt32 31)).toInt32)
def J16_numberOfTrailingZeros_J49 (x0 : Int32) (x1 : Int32) : Option (Int32) :=
  if x0 ≤ (16 : Int32) then
    J16_numberOfTrailingZeros_J62 x0 x1
  else
    (some (x1 + (4 : Int32))).bind fun v55 =>
    (some ((x0.toUInt32 >>> ((4 : Int32).toUInt32 &&& Int32.toUInt32 31)).toInt32)).bind fun v61 =>
    J16_numberOfTrailingZeros_J62 v61 v55
def J16_numberOfTrailingZeros_J34 (x0 : Int32) (x1 : Int32) : Option (Int32) :=
  if x0 ≤ (256 : Int32) then
    J16_numberOfTrailingZeros_J49 x0 x1
  else
    (some (x1 + (8 : Int32))).bind fun v41 =>
    (some ((x0.toUInt32 >>> ((8 : Int32).toUInt32 &&& Int32.toUInt32 31)).toInt32)).bind fun v48 =>
    J16_numberOfTrailingZeros_J49 v48 v41
def J16_numberOfTrailingZeros (a0 : Int32) : Option (Int32) :=
  (some ((a0 ^^^ (-1 : Int32)) &&& (a0 - (1 : Int32)))).bind fun v7 =>
  if (0 : Int32) < v7 then
    if v7 ≤ (65536 : Int32) then
      J16_numberOfTrailingZeros_J34 v7 (1 : Int32)
    else
      (some ((1 : Int32) + (16 : Int32))).bind fun v26 =>
      (some ((v7.toUInt32 >>> ((16 : Int32).toUInt32 &&& Int32.toUInt32 31)).toInt32)).bind fun v33 =>
      J16_numberOfTrailingZeros_J34 v33 v26
  else
    some (v7 &&& (32 : Int32))
set_option maxHeartbeats 4000000 in
theorem mJ16_numberOfTrailingZeros (a0 : Int32) (r : Int32) (hf : J16_numberOfTrailingZeros a0 = some r) : SMi yJ16_numberOfTrailingZeros cJ16_numberOfTrailingZeros 2 (some .int) 1 40 [.int a0] r := by
  refine SMi.of (by decide) (Nat.le_of_ble_eq_true rfl) ?_
  intro p l e s m args below meth c Q ls hx hb hml hown hts hret hl
  have hl : lv_has ls 2 [(0, .int a0)] := hl
  unfold J16_numberOfTrailingZeros at hf
  have hJ62 : ∀ (x0 : Int32) (x1 : Int32) (ls : Array Slot), J16_numberOfTrailingZeros_J62 x0 x1 = some r → lv_has ls 2 [(0, .int x0), (1, .int x1)] → W p l e ({ frames := 1, cells := 0, slots := 0, locals := 40 } : Room) s m args below meth c s.heap [] 0 0 Q (F0 m 62 ls []) := by
    intro x0 x1 ls hf hl
    unfold J16_numberOfTrailingZeros_J62 at hf
    refine lv_iload_n hx hb dJ16_numberOfTrailingZeros_62 rfl (lv_at hl 0 rfl) ?_
    refine lv_iconst (v := (4 : Int32)) hx hb dJ16_numberOfTrailingZeros_63 (by decide) ?_
    refine lv_icmp_le (tgt := 74) hx hb dJ16_numberOfTrailingZeros_64 (by decide) (fun hc => ?_) (fun hc => ?_)
    · replace hf := ipos hc hf
      refine lv_iload_n hx hb dJ16_numberOfTrailingZeros_74 rfl (lv_at hl 1 rfl) ?_
      refine lv_iload_n hx hb dJ16_numberOfTrailingZeros_75 rfl (lv_at hl 0 rfl) ?_
      refine lv_iconst (v := (1 : Int32)) hx hb dJ16_numberOfTrailingZeros_76 (by decide) ?_
      refine lv_iushr (v := (x0.toUInt32 >>> ((1 : Int32).toUInt32 &&& Int32.toUInt32 31)).toInt32) hx hb dJ16_numberOfTrailingZeros_77 rfl ?_
      refine lv_iadd hx hb dJ16_numberOfTrailingZeros_78 ?_
      have hf := Option.some.inj hf
      rw [hf]
      exact hret 79 ls dJ16_numberOfTrailingZeros_79
    · replace hf := ineg hc hf
      obtain ⟨v67, ev67, hf⟩ := obd hf
      refine lv_iinc (v := v67) (lv' := [(1, .int v67), (0, .int x0)]) hx hb dJ16_numberOfTrailingZeros_67 hl (k := 1) rfl (iiE ev67 (by decide)) (by decide) rfl (fun ls hl => ?_)
      refine lv_iload_n hx hb dJ16_numberOfTrailingZeros_70 rfl (lv_at hl 1 rfl) ?_
      refine lv_iconst (v := (2 : Int32)) hx hb dJ16_numberOfTrailingZeros_71 (by decide) ?_
      refine lv_iushr (v := (x0.toUInt32 >>> ((2 : Int32).toUInt32 &&& Int32.toUInt32 31)).toInt32) hx hb dJ16_numberOfTrailingZeros_72 rfl ?_
      obtain ⟨v73, ev73, hf⟩ := obd hf
      refine nmI ev73 ?_
      refine lv_istore_n (lv' := [(0, .int v73), (1, .int v67)]) hx hb dJ16_numberOfTrailingZeros_73 rfl hl (by decide) rfl (fun ls hl => ?_)
      refine lv_iload_n hx hb dJ16_numberOfTrailingZeros_74 rfl (lv_at hl 1 rfl) ?_
      refine lv_iload_n hx hb dJ16_numberOfTrailingZeros_75 rfl (lv_at hl 0 rfl) ?_
      refine lv_iconst (v := (1 : Int32)) hx hb dJ16_numberOfTrailingZeros_76 (by decide) ?_
      refine lv_iushr (v := (v73.toUInt32 >>> ((1 : Int32).toUInt32 &&& Int32.toUInt32 31)).toInt32) hx hb dJ16_numberOfTrailingZeros_77 rfl ?_
      refine lv_iadd hx hb dJ16_numberOfTrailingZeros_78 ?_
      have hf := Option.some.inj hf
      rw [hf]
      exact hret 79 ls dJ16_numberOfTrailingZeros_79
  have hJ49 : ∀ (x0 : Int32) (x1 : Int32) (ls : Array Slot), J16_numberOfTrailingZeros_J49 x0 x1 = some r → lv_has ls 2 [(0, .int x0), (1, .int x1)] → W p l e ({ frames := 1, cells := 0, slots := 0, locals := 40 } : Room) s m args below meth c s.heap [] 0 0 Q (F0 m 49 ls []) := by
    intro x0 x1 ls hf hl
    unfold J16_numberOfTrailingZeros_J49 at hf
    refine lv_iload_n hx hb dJ16_numberOfTrailingZeros_49 rfl (lv_at hl 0 rfl) ?_
    refine lv_bipush (v := (16 : Int32)) hx hb dJ16_numberOfTrailingZeros_50 (by decide) ?_
    refine lv_icmp_le (tgt := 62) hx hb dJ16_numberOfTrailingZeros_52 (by decide) (fun hc => ?_) (fun hc => ?_)
    · replace hf := ipos hc hf
      exact hJ62 x0 x1 ls hf  (lv_sub hl [0, 1] rfl)
    · replace hf := ineg hc hf
      obtain ⟨v55, ev55, hf⟩ := obd hf
      refine lv_iinc (v := v55) (lv' := [(1, .int v55), (0, .int x0)]) hx hb dJ16_numberOfTrailingZeros_55 hl (k := 1) rfl (iiE ev55 (by decide)) (by decide) rfl (fun ls hl => ?_)
      refine lv_iload_n hx hb dJ16_numberOfTrailingZeros_58 rfl (lv_at hl 1 rfl) ?_
      refine lv_iconst (v := (4 : Int32)) hx hb dJ16_numberOfTrailingZeros_59 (by decide) ?_
      refine lv_iushr (v := (x0.toUInt32 >>> ((4 : Int32).toUInt32 &&& Int32.toUInt32 31)).toInt32) hx hb dJ16_numberOfTrailingZeros_60 rfl ?_
      obtain ⟨v61, ev61, hf⟩ := obd hf
      refine nmI ev61 ?_
      refine lv_istore_n (lv' := [(0, .int v61), (1, .int v55)]) hx hb dJ16_numberOfTrailingZeros_61 rfl hl (by decide) rfl (fun ls hl => ?_)
      exact hJ62 v61 v55 ls hf  (lv_sub hl [0, 1] rfl)
  have hJ34 : ∀ (x0 : Int32) (x1 : Int32) (ls : Array Slot), J16_numberOfTrailingZeros_J34 x0 x1 = some r → lv_has ls 2 [(0, .int x0), (1, .int x1)] → W p l e ({ frames := 1, cells := 0, slots := 0, locals := 40 } : Room) s m args below meth c s.heap [] 0 0 Q (F0 m 34 ls []) := by
    intro x0 x1 ls hf hl
    unfold J16_numberOfTrailingZeros_J34 at hf
    refine lv_iload_n hx hb dJ16_numberOfTrailingZeros_34 rfl (lv_at hl 0 rfl) ?_
    refine lv_sipush (v := (256 : Int32)) hx hb dJ16_numberOfTrailingZeros_35 (by decide) ?_
    refine lv_icmp_le (tgt := 49) hx hb dJ16_numberOfTrailingZeros_38 (by decide) (fun hc => ?_) (fun hc => ?_)
    · replace hf := ipos hc hf
      exact hJ49 x0 x1 ls hf  (lv_sub hl [0, 1] rfl)
    · replace hf := ineg hc hf
      obtain ⟨v41, ev41, hf⟩ := obd hf
      refine lv_iinc (v := v41) (lv' := [(1, .int v41), (0, .int x0)]) hx hb dJ16_numberOfTrailingZeros_41 hl (k := 1) rfl (iiE ev41 (by decide)) (by decide) rfl (fun ls hl => ?_)
      refine lv_iload_n hx hb dJ16_numberOfTrailingZeros_44 rfl (lv_at hl 1 rfl) ?_
      refine lv_bipush (v := (8 : Int32)) hx hb dJ16_numberOfTrailingZeros_45 (by decide) ?_
      refine lv_iushr (v := (x0.toUInt32 >>> ((8 : Int32).toUInt32 &&& Int32.toUInt32 31)).toInt32) hx hb dJ16_numberOfTrailingZeros_47 rfl ?_
      obtain ⟨v48, ev48, hf⟩ := obd hf
      refine nmI ev48 ?_
      refine lv_istore_n (lv' := [(0, .int v48), (1, .int v41)]) hx hb dJ16_numberOfTrailingZeros_48 rfl hl (by decide) rfl (fun ls hl => ?_)
      exact hJ49 v48 v41 ls hf  (lv_sub hl [0, 1] rfl)
  refine lv_iload_n hx hb dJ16_numberOfTrailingZeros_0 rfl (lv_at hl 0 rfl) ?_
  refine lv_iconst (v := (-1 : Int32)) hx hb dJ16_numberOfTrailingZeros_1 (by decide) ?_
  refine lv_ixor hx hb dJ16_numberOfTrailingZeros_2 ?_
  refine lv_iload_n hx hb dJ16_numberOfTrailingZeros_3 rfl (lv_at hl 0 rfl) ?_
  refine lv_iconst (v := (1 : Int32)) hx hb dJ16_numberOfTrailingZeros_4 (by decide) ?_
  refine lv_isub hx hb dJ16_numberOfTrailingZeros_5 ?_
  refine lv_iand hx hb dJ16_numberOfTrailingZeros_6 ?_
  obtain ⟨v7, ev7, hf⟩ := obd hf
  refine nmI ev7 ?_
  refine lv_istore_n (lv' := [(0, .int v7)]) hx hb dJ16_numberOfTrailingZeros_7 rfl hl (by decide) rfl (fun ls hl => ?_)
  refine lv_iload_n hx hb dJ16_numberOfTrailingZeros_8 rfl (lv_at hl 0 rfl) ?_
  refine lv_if_gt (tgt := 17) hx hb dJ16_numberOfTrailingZeros_9 (by decide) (fun hc => ?_) (fun hc => ?_)
  · replace hf := ipos hc hf
    refine lv_iconst (v := (1 : Int32)) hx hb dJ16_numberOfTrailingZeros_17 (by decide) ?_
    refine lv_istore_n (lv' := [(1, .int (1 : Int32)), (0, .int v7)]) hx hb dJ16_numberOfTrailingZeros_18 rfl hl (by decide) rfl (fun ls hl => ?_)
    refine lv_iload_n hx hb dJ16_numberOfTrailingZeros_19 rfl (lv_at hl 1 rfl) ?_
    refine lv_ldcw hx hb hown (hts _ q709) dJ16_numberOfTrailingZeros_20 ?_
    refine lv_icmp_le (tgt := 34) hx hb dJ16_numberOfTrailingZeros_23 (by decide) (fun hc => ?_) (fun hc => ?_)
    · replace hf := ipos hc hf
      exact hJ34 v7 (1 : Int32) ls hf  (lv_sub hl [1, 0] rfl)
    · replace hf := ineg hc hf
      obtain ⟨v26, ev26, hf⟩ := obd hf
      refine lv_iinc (v := v26) (lv' := [(1, .int v26), (0, .int v7)]) hx hb dJ16_numberOfTrailingZeros_26 hl (k := 0) rfl (iiE ev26 (by decide)) (by decide) rfl (fun ls hl => ?_)
      refine lv_iload_n hx hb dJ16_numberOfTrailingZeros_29 rfl (lv_at hl 1 rfl) ?_
      refine lv_bipush (v := (16 : Int32)) hx hb dJ16_numberOfTrailingZeros_30 (by decide) ?_
      refine lv_iushr (v := (v7.toUInt32 >>> ((16 : Int32).toUInt32 &&& Int32.toUInt32 31)).toInt32) hx hb dJ16_numberOfTrailingZeros_32 rfl ?_
      obtain ⟨v33, ev33, hf⟩ := obd hf
      refine nmI ev33 ?_
      refine lv_istore_n (lv' := [(0, .int v33), (1, .int v26)]) hx hb dJ16_numberOfTrailingZeros_33 rfl hl (by decide) rfl (fun ls hl => ?_)
      exact hJ34 v33 v26 ls hf  (lv_sub hl [0, 1] rfl)
  · replace hf := ineg hc hf
    refine lv_iload_n hx hb dJ16_numberOfTrailingZeros_12 rfl (lv_at hl 0 rfl) ?_
    refine lv_bipush (v := (32 : Int32)) hx hb dJ16_numberOfTrailingZeros_13 (by decide) ?_
    refine lv_iand hx hb dJ16_numberOfTrailingZeros_15 ?_
    have hf := Option.some.inj hf
    rw [hf]
    exact hret 16 ls dJ16_numberOfTrailingZeros_16


def X1_soldAt (a0 : Int32) (a1 : Int32) : Option (Int32) :=
  some ((a0 <<< ((6 : Int32) &&& (31 : Int32))) + a1)
set_option maxHeartbeats 4000000 in
theorem mX1_soldAt (a0 : Int32) (a1 : Int32) (r : Int32) (hf : X1_soldAt a0 a1 = some r) : SMi yX1_soldAt cX1_soldAt 2 (some .int) 1 40 [.int a0, .int a1] r := by
  refine SMi.of (by decide) (Nat.le_of_ble_eq_true rfl) ?_
  intro p l e s m args below meth c Q ls hx hb hml hown hts hret hl
  have hl : lv_has ls 2 [(0, .int a0), (1, .int a1)] := hl
  unfold X1_soldAt at hf
  refine lv_iload_n hx hb dX1_soldAt_0 rfl (lv_at hl 0 rfl) ?_
  refine lv_bipush (v := (6 : Int32)) hx hb dX1_soldAt_1 (by decide) ?_
  refine lv_ishl hx hb dX1_soldAt_3 ?_
  refine lv_iload_n hx hb dX1_soldAt_4 rfl (lv_at hl 1 rfl) ?_
  refine lv_iadd hx hb dX1_soldAt_5 ?_
  have hf := Option.some.inj hf
  rw [hf]
  exact hret 6 ls dX1_soldAt_6

def X1_coinsOfAll_L4 (τ : Cs) (k1 : Nat) (w4 : Int32 × Int32) : Option ((Int32 × Int32) ⊕ (Int32)) :=
  if (cw τ k1 0 1) ≤ w4.2 then
    some (.inr w4.1)
  else
    (ld 6 (cw τ k1 10) w4.2).bind fun x18 =>
    (some (w4.1 + x18)).bind fun v20 =>
    (some (w4.2 + (1 : Int32))).bind fun v21 =>
    some (.inl (v20, v21))
def X1_coinsOfAll (τ : Cs) (k1 : Nat) : Option (Int32) :=
  (loopO (X1_coinsOfAll_L4 τ k1) FU ((0 : Int32), (0 : Int32))).bind fun e4 =>
  some e4
set_option maxHeartbeats 4000000 in
theorem mX1_coinsOfAll (Λ : Nat → Nat → (Nat → Int32) → Int32) (Λn : Nat → Int32) (τ : Cs) (k1 : Nat) (hk1 : k1 < 5) (r : Int32) (hf : X1_coinsOfAll τ k1 = some r) : CMi yX1_coinsOfAll cX1_coinsOfAll 4 (some .int) 1 40 Λ Λn (fun o aK aF => [.ref o, .ref (wA o k1)]) r τ τ := by
  refine CMi.of (by decide) (fun _ _ _ => Nat.le_of_ble_eq_true rfl) ?_
  intro p l e s m args below meth c D J o z aK aV G Ld aF Q ls hx hb hml hown hts hE hret hI hl
  obtain ⟨H, eH⟩ : ∃ H, H = s.heap := ⟨_, rfl⟩
  obtain ⟨locs, eL⟩ : ∃ L : List Loc, L = [] := ⟨_, rfl⟩
  rw [← eH, ← eL] at hI ⊢
  have hown : s.vm.findClass RX1 = some m.cls := hown
  have hl : lv_has ls 4 [(0, .ref o), (1, .ref (wA o k1))] := hl
  unfold X1_coinsOfAll at hf
  refine lv_iconst (v := (0 : Int32)) hx hb dX1_coinsOfAll_0 (by decide) ?_
  refine lv_istore_n (lv' := [(2, .int (0 : Int32)), (0, .ref o), (1, .ref (wA o k1))]) hx hb dX1_coinsOfAll_1 rfl hl (by decide) rfl (fun ls hl => ?_)
  refine lv_iconst (v := (0 : Int32)) hx hb dX1_coinsOfAll_2 (by decide) ?_
  refine lv_istore_n (lv' := [(3, .int (0 : Int32)), (2, .int (0 : Int32)), (0, .ref o), (1, .ref (wA o k1))]) hx hb dX1_coinsOfAll_3 rfl hl (by decide) rfl (fun ls hl => ?_)
  obtain ⟨e4, he4, hf⟩ := obd hf
  refine loopO_W (Wat := fun w4 => ∀ (H : Heap) (locs : List Loc) (ls : Array Slot), IC D J o Ld s H locs τ → lv_has ls 4 [(1, .ref (wA o k1)), (2, .int w4.1), (3, .int w4.2)] → W p l e ({ frames := 1, cells := 0, slots := 0, locals := 40 } : Room) s m args below meth c H locs 0 0 Q (F0 m 4 ls [])) (Wex := fun ex_ => ∀ (H : Heap) (locs : List Loc) (ls : Array Slot), IC D J o Ld s H locs τ → lv_has ls 4 [(2, .int ex_)] → W p l e ({ frames := 1, cells := 0, slots := 0, locals := 40 } : Room) s m args below meth c H locs 0 0 Q (F0 m 27 ls [])) (fun w4 o4 hf hk hq => ?_) FU _ e4 he4 ?_ H locs ls hI (lv_sub hl [3, 1, 0] rfl)
  · intro H locs ls hI hl
    unfold X1_coinsOfAll_L4 at hf
    refine lv_iload_n hx hb dX1_coinsOfAll_4 rfl (lv_at hl 2 rfl) ?_
    refine lv_aload_n hx hb dX1_coinsOfAll_5 rfl (lv_at hl 0 rfl) ?_
    refine ggetN hx hb hts in_X2 hown hE.1.1 (hI.1.w k1 hk1 0 rfl) rfl 1 (by decide) (hE.1.2.2.f 1 rfl) rfl dX1_coinsOfAll_6 ?_
    refine lv_icmp_ge (tgt := 27) hx hb dX1_coinsOfAll_9 (by decide) (fun hc => ?_) (fun hc => ?_)
    · replace hf := ipos hc hf
      exact hq _ (Option.some.inj hf).symm H locs ls hI (lv_sub hl [1] rfl)
    · replace hf := ineg hc hf
      refine lv_iload_n hx hb dX1_coinsOfAll_12 rfl (lv_at hl 1 rfl) ?_
      refine lv_aload_n hx hb dX1_coinsOfAll_13 rfl (lv_at hl 0 rfl) ?_
      refine ggetN hx hb hts in_X2 hown hE.1.1 (hI.1.w k1 hk1 0 rfl) rfl 10 (by decide) (hE.1.2.2.f 12 rfl) rfl dX1_coinsOfAll_14 ?_
      refine lv_iload_n hx hb dX1_coinsOfAll_17 rfl (lv_at hl 2 rfl) ?_
      obtain ⟨x18, ex18, hf⟩ := obd hf
      refine gald hx hb hE.1.1 0 (hI.1.w k1 hk1 2 rfl) rfl ex18 dX1_coinsOfAll_18 ?_
      refine lv_iadd hx hb dX1_coinsOfAll_19 ?_
      obtain ⟨v20, ev20, hf⟩ := obd hf
      refine nmI ev20 ?_
      refine lv_istore_n (lv' := [(2, .int v20), (1, .ref (wA o k1)), (3, .int w4.2)]) hx hb dX1_coinsOfAll_20 rfl hl (by decide) rfl (fun ls hl => ?_)
      obtain ⟨v21, ev21, hf⟩ := obd hf
      refine lv_iinc (v := v21) (lv' := [(3, .int v21), (2, .int v20), (1, .ref (wA o k1))]) hx hb dX1_coinsOfAll_21 hl (k := 2) rfl (iiE ev21 (by decide)) (by decide) rfl (fun ls hl => ?_)
      refine lv_goto (tgt := 4) hx hb dX1_coinsOfAll_24 (by decide) ?_
      exact hk _ (Option.some.inj hf).symm H locs ls hI (lv_sub hl [2, 1, 0] rfl)
  · skip
    intro H locs ls hI hl
    refine lv_iload_n hx hb dX1_coinsOfAll_27 rfl (lv_at hl 0 rfl) ?_
    have hf := Option.some.inj hf
    rw [hf]
    exact hret H locs 28 ls hI dX1_coinsOfAll_28

theorem cwX1_coinsOfAll_X1 {R : Room} {s : State} {args : Array Value} {fr lo : Nat} (hts : ∀ w ∈ lw_all, w.before args s = true) (hR : fr + 1 ≤ R.frames ∧ 8 + (4 + 11) + lo ≤ R.locals) : CallW R s args RX1 RX1 469 yX1_coinsOfAll cX1_coinsOfAll 4 (some .int) (ws_ yX1_coinsOfAll cX1_coinsOfAll 4 (some .int)) ({ frames := fr, cells := 0, slots := 0, locals := lo }) 0 0 1 :=
  cwV 1 hts (lw_V q824 q826 qs14 q133 q827) rfl rfl rfl (by decide +kernel) hR
def X1_shareOf (τ : Cs) (a1 : Int32) : Option (Int32) :=
  (X1_coinsOfAll τ 0).bind fun x5 =>
  if x5 = (0 : Int32) then
    some (0 : Int32)
  else
    (ld 6 (cw τ 0 10) a1).bind fun x27 =>
    (dnz x5).bind fun _ =>
    some (((100 : Int32) * x27) / x5)
set_option maxHeartbeats 4000000 in
theorem mX1_shareOf (Λ : Nat → Nat → (Nat → Int32) → Int32) (Λn : Nat → Int32) (τ : Cs) (a1 : Int32) (r : Int32) (hf : X1_shareOf τ a1 = some r) : CMi yX1_shareOf cX1_shareOf 3 (some .int) 2 63 Λ Λn (fun o aK aF => [.ref o, .int a1]) r τ τ := by
  refine CMi.of (by decide) (fun _ _ _ => Nat.le_of_ble_eq_true rfl) ?_
  intro p l e s m args below meth c D J o z aK aV G Ld aF Q ls hx hb hml hown hts hE hret hI hl
  obtain ⟨H, eH⟩ : ∃ H, H = s.heap := ⟨_, rfl⟩
  obtain ⟨locs, eL⟩ : ∃ L : List Loc, L = [] := ⟨_, rfl⟩
  rw [← eH, ← eL] at hI ⊢
  have hown : s.vm.findClass RX1 = some m.cls := hown
  have hl : lv_has ls 3 [(0, .ref o), (1, .int a1)] := hl
  unfold X1_shareOf at hf
  refine lv_aload_n hx hb dX1_shareOf_0 rfl (lv_at hl 0 rfl) ?_
  refine lv_aload_n hx hb dX1_shareOf_1 rfl (lv_at hl 0 rfl) ?_
  refine gget hx hb hts in_X1 hown hE.1.1 (hI.1.o 0 rfl) rfl 0 (by decide) q463 rfl dX1_shareOf_2 ?_
  obtain ⟨x5, ex5, hf⟩ := obd hf
  refine ccallI (rest := []) hx hb hts hown hE hI hml hl.1 (mX1_coinsOfAll Λ Λn τ 0 (by decide) _ ex5) (cwX1_coinsOfAll_X1 hts ⟨Nat.le_of_ble_eq_true rfl, Nat.le_of_ble_eq_true rfl⟩) (hI.1.o 0 rfl) rfl rfl ⟨Nat.le_of_ble_eq_true rfl, Nat.le_of_ble_eq_true rfl⟩ rfl rfl (lv_room (Nat.le_of_ble_eq_true rfl)) dX1_shareOf_5 (fun H locs hI => ?_)
  refine lv_istore_n (lv' := [(2, .int x5), (0, .ref o), (1, .int a1)]) hx hb dX1_shareOf_8 rfl hl (by decide) rfl (fun ls hl => ?_)
  refine lv_iload_n hx hb dX1_shareOf_9 rfl (lv_at hl 0 rfl) ?_
  refine lv_if_ne (tgt := 17) hx hb dX1_shareOf_10 (by decide) (fun hc => ?_) (fun hc => ?_)
  · replace hf := ineg hc hf
    refine lv_bipush (v := (100 : Int32)) hx hb dX1_shareOf_17 (by decide) ?_
    refine lv_aload_n hx hb dX1_shareOf_19 rfl (lv_at hl 1 rfl) ?_
    refine gget hx hb hts in_X1 hown hE.1.1 (hI.1.o 0 rfl) rfl 0 (by decide) q463 rfl dX1_shareOf_20 ?_
    refine ggetN hx hb hts in_X2 hown hE.1.1 (hI.1.w 0 (by decide) 0 rfl) rfl 10 (by decide) (hE.1.2.2.f 12 rfl) rfl dX1_shareOf_23 ?_
    refine lv_iload_n hx hb dX1_shareOf_26 rfl (lv_at hl 2 rfl) ?_
    obtain ⟨x27, ex27, hf⟩ := obd hf
    refine gald hx hb hE.1.1 0 (hI.1.w 0 (by decide) 2 rfl) rfl ex27 dX1_shareOf_27 ?_
    refine lv_imul hx hb dX1_shareOf_28 ?_
    refine lv_iload_n hx hb dX1_shareOf_29 rfl (lv_at hl 0 rfl) ?_
    obtain ⟨_, en30, hf⟩ := obd hf
    refine lv_idiv hx hb dX1_shareOf_30 (dnz_e en30).2 ?_
    have hf := Option.some.inj hf
    rw [hf]
    exact hret H locs 31 ls hI dX1_shareOf_31
  · replace hf := ipos hc hf
    refine lv_iconst (v := (0 : Int32)) hx hb dX1_shareOf_13 (by decide) ?_
    refine lv_goto (tgt := 31) hx hb dX1_shareOf_14 (by decide) ?_
    have hf := Option.some.inj hf
    rw [hf]
    exact hret H locs 31 ls hI dX1_shareOf_31

def X1_jarOf_L4 (τ : Cs) (c1 : Int32) (w4 : Int32 × Int32) : Option ((Int32 × Int32) ⊕ (Int32)) :=
  if (cw τ 0 0 3) ≤ w4.2 then
    some (.inr w4.1)
  else
    (ld 8 (cw τ 0 16) w4.2).bind fun x24 =>
    if x24 = c1 then
      (some (w4.1 ||| ((1 : Int32) <<< (w4.2 &&& (31 : Int32))))).bind fun v37_4 =>
      (some (w4.2 + (1 : Int32))).bind fun v38_5 =>
      some (.inl (v37_4, v38_5))
    else
      (some (w4.1 ||| (0 : Int32))).bind fun v37 =>
      (some (w4.2 + (1 : Int32))).bind fun v38 =>
      some (.inl (v37, v38))
def X1_jarOf (τ : Cs) (a1 : Int32) : Option (Int32) :=
  (loopO (X1_jarOf_L4 τ a1) FU ((0 : Int32), (0 : Int32))).bind fun e4 =>
  some e4
set_option maxHeartbeats 4000000 in
theorem mX1_jarOf (Λ : Nat → Nat → (Nat → Int32) → Int32) (Λn : Nat → Int32) (τ : Cs) (a1 : Int32) (r : Int32) (hf : X1_jarOf τ a1 = some r) : CMi yX1_jarOf cX1_jarOf 4 (some .int) 1 40 Λ Λn (fun o aK aF => [.ref o, .int a1]) r τ τ := by
  refine CMi.of (by decide) (fun _ _ _ => Nat.le_of_ble_eq_true rfl) ?_
  intro p l e s m args below meth c D J o z aK aV G Ld aF Q ls hx hb hml hown hts hE hret hI hl
  obtain ⟨H, eH⟩ : ∃ H, H = s.heap := ⟨_, rfl⟩
  obtain ⟨locs, eL⟩ : ∃ L : List Loc, L = [] := ⟨_, rfl⟩
  rw [← eH, ← eL] at hI ⊢
  have hown : s.vm.findClass RX1 = some m.cls := hown
  have hl : lv_has ls 4 [(0, .ref o), (1, .int a1)] := hl
  unfold X1_jarOf at hf
  refine lv_iconst (v := (0 : Int32)) hx hb dX1_jarOf_0 (by decide) ?_
  refine lv_istore_n (lv' := [(2, .int (0 : Int32)), (0, .ref o), (1, .int a1)]) hx hb dX1_jarOf_1 rfl hl (by decide) rfl (fun ls hl => ?_)
  refine lv_iconst (v := (0 : Int32)) hx hb dX1_jarOf_2 (by decide) ?_
  refine lv_istore_n (lv' := [(3, .int (0 : Int32)), (2, .int (0 : Int32)), (0, .ref o), (1, .int a1)]) hx hb dX1_jarOf_3 rfl hl (by decide) rfl (fun ls hl => ?_)
  obtain ⟨e4, he4, hf⟩ := obd hf
  have hs4 : ∀ (c1 : Int32), ∀ (w4 : Int32 × Int32) (o4 : (Int32 × Int32) ⊕ (Int32)), X1_jarOf_L4 τ c1 w4 = some o4 → (∀ wx_, o4 = .inl wx_ → ∀ (H : Heap) (locs : List Loc) (ls : Array Slot), IC D J o Ld s H locs τ → lv_has ls 4 [(0, .ref o), (1, .int c1), (2, .int wx_.1), (3, .int wx_.2)] → W p l e ({ frames := 1, cells := 0, slots := 0, locals := 40 } : Room) s m args below meth c H locs 0 0 Q (F0 m 4 ls [])) → (∀ ex_, o4 = .inr ex_ → ∀ (H : Heap) (locs : List Loc) (ls : Array Slot), IC D J o Ld s H locs τ → lv_has ls 4 [(2, .int ex_)] → W p l e ({ frames := 1, cells := 0, slots := 0, locals := 40 } : Room) s m args below meth c H locs 0 0 Q (F0 m 44 ls [])) → ∀ (H : Heap) (locs : List Loc) (ls : Array Slot), IC D J o Ld s H locs τ → lv_has ls 4 [(0, .ref o), (1, .int c1), (2, .int w4.1), (3, .int w4.2)] → W p l e ({ frames := 1, cells := 0, slots := 0, locals := 40 } : Room) s m args below meth c H locs 0 0 Q (F0 m 4 ls []) := by
    intro c1 w4 o4 hf hk hq H locs ls hI hl
    unfold X1_jarOf_L4 at hf
    refine lv_iload_n hx hb dX1_jarOf_4 rfl (lv_at hl 3 rfl) ?_
    refine lv_aload_n hx hb dX1_jarOf_5 rfl (lv_at hl 0 rfl) ?_
    refine gget hx hb hts in_X1 hown hE.1.1 (hI.1.o 0 rfl) rfl 0 (by decide) q463 rfl dX1_jarOf_6 ?_
    refine ggetN hx hb hts in_X2 hown hE.1.1 (hI.1.w 0 (by decide) 0 rfl) rfl 3 (by decide) (hE.1.2.2.f 5 rfl) rfl dX1_jarOf_9 ?_
    refine lv_icmp_ge (tgt := 44) hx hb dX1_jarOf_12 (by decide) (fun hc => ?_) (fun hc => ?_)
    · replace hf := ipos hc hf
      exact hq _ (Option.some.inj hf).symm H locs ls hI (lv_sub hl [2] rfl)
    · replace hf := ineg hc hf
      refine lv_iload_n hx hb dX1_jarOf_15 rfl (lv_at hl 2 rfl) ?_
      refine lv_aload_n hx hb dX1_jarOf_16 rfl (lv_at hl 0 rfl) ?_
      refine gget hx hb hts in_X1 hown hE.1.1 (hI.1.o 0 rfl) rfl 0 (by decide) q463 rfl dX1_jarOf_17 ?_
      refine ggetN hx hb hts in_X2 hown hE.1.1 (hI.1.w 0 (by decide) 0 rfl) rfl 16 (by decide) (hE.1.2.2.f 20 rfl) rfl dX1_jarOf_20 ?_
      refine lv_iload_n hx hb dX1_jarOf_23 rfl (lv_at hl 3 rfl) ?_
      obtain ⟨x24, ex24, hf⟩ := obd hf
      refine gald hx hb hE.1.1 0 (hI.1.w 0 (by decide) 8 rfl) rfl ex24 dX1_jarOf_24 ?_
      refine lv_iload_n hx hb dX1_jarOf_25 rfl (lv_at hl 1 rfl) ?_
      refine lv_icmp_ne (tgt := 35) hx hb dX1_jarOf_26 (by decide) (fun hc => ?_) (fun hc => ?_)
      · replace hf := ineg hc hf
        refine lv_iconst (v := (0 : Int32)) hx hb dX1_jarOf_35 (by decide) ?_
        refine lv_ior hx hb dX1_jarOf_36 ?_
        obtain ⟨v37, ev37, hf⟩ := obd hf
        refine nmI ev37 ?_
        refine lv_istore_n (lv' := [(2, .int v37), (0, .ref o), (1, .int c1), (3, .int w4.2)]) hx hb dX1_jarOf_37 rfl hl (by decide) rfl (fun ls hl => ?_)
        obtain ⟨v38, ev38, hf⟩ := obd hf
        refine lv_iinc (v := v38) (lv' := [(3, .int v38), (2, .int v37), (0, .ref o), (1, .int c1)]) hx hb dX1_jarOf_38 hl (k := 3) rfl (iiE ev38 (by decide)) (by decide) rfl (fun ls hl => ?_)
        refine lv_goto (tgt := 4) hx hb dX1_jarOf_41 (by decide) ?_
        exact hk _ (Option.some.inj hf).symm H locs ls hI (lv_sub hl [2, 3, 1, 0] rfl)
      · replace hf := ipos hc hf
        refine lv_iconst (v := (1 : Int32)) hx hb dX1_jarOf_29 (by decide) ?_
        refine lv_iload_n hx hb dX1_jarOf_30 rfl (lv_at hl 3 rfl) ?_
        refine lv_ishl hx hb dX1_jarOf_31 ?_
        refine lv_goto (tgt := 36) hx hb dX1_jarOf_32 (by decide) ?_
        refine lv_ior hx hb dX1_jarOf_36 ?_
        obtain ⟨v37_4, ev37_4, hf⟩ := obd hf
        refine nmI ev37_4 ?_
        refine lv_istore_n (lv' := [(2, .int v37_4), (0, .ref o), (1, .int c1), (3, .int w4.2)]) hx hb dX1_jarOf_37 rfl hl (by decide) rfl (fun ls hl => ?_)
        obtain ⟨v38_5, ev38_5, hf⟩ := obd hf
        refine lv_iinc (v := v38_5) (lv' := [(3, .int v38_5), (2, .int v37_4), (0, .ref o), (1, .int c1)]) hx hb dX1_jarOf_38 hl (k := 3) rfl (iiE ev38_5 (by decide)) (by decide) rfl (fun ls hl => ?_)
        refine lv_goto (tgt := 4) hx hb dX1_jarOf_41 (by decide) ?_
        exact hk _ (Option.some.inj hf).symm H locs ls hI (lv_sub hl [2, 3, 1, 0] rfl)
  refine loopO_W (Wat := fun w4 => ∀ (H : Heap) (locs : List Loc) (ls : Array Slot), IC D J o Ld s H locs τ → lv_has ls 4 [(0, .ref o), (1, .int a1), (2, .int w4.1), (3, .int w4.2)] → W p l e ({ frames := 1, cells := 0, slots := 0, locals := 40 } : Room) s m args below meth c H locs 0 0 Q (F0 m 4 ls [])) (Wex := fun ex_ => ∀ (H : Heap) (locs : List Loc) (ls : Array Slot), IC D J o Ld s H locs τ → lv_has ls 4 [(2, .int ex_)] → W p l e ({ frames := 1, cells := 0, slots := 0, locals := 40 } : Room) s m args below meth c H locs 0 0 Q (F0 m 44 ls [])) (hs4 a1) FU _ e4 he4 ?_ H locs ls hI (lv_sub hl [2, 3, 1, 0] rfl)
  · skip
    intro H locs ls hI hl
    refine lv_iload_n hx hb dX1_jarOf_44 rfl (lv_at hl 0 rfl) ?_
    have hf := Option.some.inj hf
    rw [hf]
    exact hret H locs 45 ls hI dX1_jarOf_45

theorem cwX2_season_X1 {R : Room} {s : State} {args : Array Value} {fr lo : Nat} (hts : ∀ w ∈ lw_all, w.before args s = true) (hR : fr + 1 ≤ R.frames ∧ 8 + (1 + 11) + lo ≤ R.locals) : CallW R s args RX1 RX2 381 yX2_season cX2_season 1 (some .int) (ws_ yX2_season cX2_season 1 (some .int)) ({ frames := fr, cells := 0, slots := 0, locals := lo }) 0 0 0 :=
  cwV 0 hts (lw_V q583 q584 q585 q134 q586) rfl rfl rfl (by decide +kernel) hR
def X1_byLaw_J103 (Λ : Nat → Nat → (Nat → Int32) → Int32) (τ : Cs) (k1 : Nat) (n2 : Nat) (a3 : Int32) (y0 : Int32) : Option (Int32 × Cs) :=
  (zb y0).bind fun _ =>
  (some (cou τ (mup (co τ) 3 7 y0))).bind fun t103 =>
  (ld 8 (cw t103 k1 22) a3).bind fun x113 =>
  if x113 = (-1 : Int32) then
    (some (cou t103 (mup (co t103) 3 8 (0 : Int32)))).bind fun t123 =>
    Option.elim (cl t123 k1) (
      none) fun la127 =>
    (zb (co t123 3 7)).bind fun _ =>
    (zb (co t123 3 8)).bind fun _ =>
    some ((Λ la127 n2 (co t123 3)), t123)
  else
    (some (cou t103 (mup (co t103) 3 8 (1 : Int32)))).bind fun t123_8 =>
    Option.elim (cl t123_8 k1) (
      none) fun la127_9 =>
    (zb (co t123_8 3 7)).bind fun _ =>
    (zb (co t123_8 3 8)).bind fun _ =>
    some ((Λ la127_9 n2 (co t123_8 3)), t123_8)
def X1_byLaw (Λ : Nat → Nat → (Nat → Int32) → Int32) (τ : Cs) (k1 : Nat) (n2 : Nat) (a3 : Int32) : Option (Int32 × Cs) :=
  Option.elim (cl τ k1) (
    some ((0 : Int32), τ)) fun la1 =>
  (some (cou τ (mup (co τ) 3 0 a3))).bind fun t18 =>
  (ld 8 (cw t18 k1 16) a3).bind fun x28 =>
  (some (cou t18 (mup (co t18) 3 1 x28))).bind fun t29 =>
  (ld 8 (cw t29 k1 19) a3).bind fun x39 =>
  (some (cou t29 (mup (co t29) 3 2 x39))).bind fun t40 =>
  (ld 8 (cw t40 k1 24) a3).bind fun x50 =>
  (some (cou t40 (mup (co t40) 3 3 x50))).bind fun t51 =>
  (X2_season (cw t51 k1)).bind fun x57 =>
  (some (cou t51 (mup (co t51) 3 4 x57))).bind fun t60 =>
  (X2_season (cw t60 k1)).bind fun x70 =>
  (ld 4 (cw t60 k1 9) x70).bind fun x73 =>
  (some (cou t60 (mup (co t60) 3 5 x73))).bind fun t74 =>
  (some (cou t74 (mup (co t74) 3 6 (cw t74 k1 0 5)))).bind fun t83 =>
  (ld 8 (cw t83 k1 21) a3).bind fun x93 =>
  if x93 = (-1 : Int32) then
    X1_byLaw_J103 Λ t83 k1 n2 a3 (0 : Int32)
  else
    X1_byLaw_J103 Λ t83 k1 n2 a3 (1 : Int32)
set_option maxHeartbeats 4000000 in
theorem mX1_byLaw (Λ : Nat → Nat → (Nat → Int32) → Int32) (Λn : Nat → Int32) (τ : Cs) (k1 : Nat) (n2 : Nat) (a3 : Int32) (hk1 : k1 < 5) (hn2 : n2 < 3) (r : Int32) (τ' : Cs) (hf : X1_byLaw Λ τ k1 n2 a3 = some (r, τ')) : CMi yX1_byLaw cX1_byLaw 5 (some .int) 60 3000 Λ Λn (fun o aK aF => [.ref o, .ref (wA o k1), .ref (aF (7 + n2)), .int a3]) r τ τ' := by
  refine CMi.of (by decide) (fun _ _ _ => Nat.le_of_ble_eq_true rfl) ?_
  intro p l e s m args below meth c D J o z aK aV G Ld aF Q ls hx hb hml hown hts hE hret hI hl
  obtain ⟨H, eH⟩ : ∃ H, H = s.heap := ⟨_, rfl⟩
  obtain ⟨locs, eL⟩ : ∃ L : List Loc, L = [] := ⟨_, rfl⟩
  rw [← eH, ← eL] at hI ⊢
  have hown : s.vm.findClass RX1 = some m.cls := hown
  have hl : lv_has ls 5 [(0, .ref o), (1, .ref (wA o k1)), (2, .ref (aF (7 + n2))), (3, .int a3)] := hl
  unfold X1_byLaw at hf
  have hJ103 : ∀ (τ : Cs) (y0 : Int32) (H : Heap) (locs : List Loc) (ls : Array Slot), X1_byLaw_J103 Λ τ k1 n2 a3 y0 = some (r, τ') → IC D J o Ld s H locs τ → lv_has ls 5 [(1, .ref (wA o k1)), (2, .ref (aF (7 + n2))), (3, .int a3), (4, .ref (o + 63))] → W p l e ({ frames := 60, cells := 0, slots := 0, locals := 3000 } : Room) s m args below meth c H locs 0 0 Q (F0 m 103 ls [.int y0, .ref (o + 63)]) := by
    intro τ y0 H locs ls hf hI hl
    unfold X1_byLaw_J103 at hf
    obtain ⟨_, eb103, hf⟩ := obd hf
    obtain ⟨t103, et103, hf⟩ := obd hf
    refine gputN hx hb hts in_X4 tyX4 tyX4_ok nmX4 hown hE.1.1 (hI.1.o 3 rfl) rfl 7 (by decide) (hE.1.2.2.f 48 rfl) rfl (zb_n (zb_e eb103).2) (zb_f (zb_e eb103).2) (Nat.le_of_ble_eq_true rfl) dX1_byLaw_103 (fun H locs h1 h2 h3 h4 => ?_)
    have hI := hI.putO (σ' := cou τ (mup (co τ) 3 7 y0)) (P := 3) rfl rfl ⟨rfl, rfl⟩ h1 h2 h3 h4
    rw [Option.some.inj et103] at hI
    refine lv_aload hx hb dX1_byLaw_106 (lv_at hl 3 rfl) ?_
    refine lv_aload_n hx hb dX1_byLaw_108 rfl (lv_at hl 0 rfl) ?_
    refine ggetN hx hb hts in_X2 hown hE.1.1 (hI.1.w k1 hk1 0 rfl) rfl 22 (by decide) (hE.1.2.2.f 29 rfl) rfl dX1_byLaw_109 ?_
    refine lv_iload_n hx hb dX1_byLaw_112 rfl (lv_at hl 2 rfl) ?_
    obtain ⟨x113, ex113, hf⟩ := obd hf
    refine gald hx hb hE.1.1 0 (hI.1.w k1 hk1 14 rfl) rfl ex113 dX1_byLaw_113 ?_
    refine lv_iconst (v := (-1 : Int32)) hx hb dX1_byLaw_114 (by decide) ?_
    refine lv_icmp_eq (tgt := 122) hx hb dX1_byLaw_115 (by decide) (fun hc => ?_) (fun hc => ?_)
    · replace hf := ipos hc hf
      refine lv_iconst (v := (0 : Int32)) hx hb dX1_byLaw_122 (by decide) ?_
      obtain ⟨t123, et123, hf⟩ := obd hf
      refine gputN hx hb hts in_X4 tyX4 tyX4_ok nmX4 hown hE.1.1 (hI.1.o 3 rfl) rfl 8 (by decide) (hE.1.2.2.f 50 rfl) rfl (zb_n (by decide)) (zb_f (by decide)) (Nat.le_of_ble_eq_true rfl) dX1_byLaw_123 (fun H locs h1 h2 h3 h4 => ?_)
      have hI := hI.putO (σ' := cou t103 (mup (co t103) 3 8 (0 : Int32))) (P := 3) rfl rfl ⟨rfl, rfl⟩ h1 h2 h3 h4
      rw [Option.some.inj et123] at hI
      refine lv_aload_n hx hb dX1_byLaw_126 rfl (lv_at hl 0 rfl) ?_
      refine ggetN hx hb hts in_X2 hown hE.1.1 (hI.1.w k1 hk1 0 rfl) rfl 28 (by decide) (hE.1.2.2.f 35 rfl) rfl dX1_byLaw_127 ?_
      rcases hla127 : cl t123 k1 with _ | la127
      · rw [hla127] at hf
        replace hf := oelN hf
        refine lv_aload_n hx hb dX1_byLaw_130 rfl (lv_at hl 1 rfl) ?_
        refine lv_aload hx hb dX1_byLaw_131 (lv_at hl 3 rfl) ?_
        cases hf
      · rw [hla127] at hf
        replace hf := oelS hf
        have hla127g := hI.1.2.2 k1 hk1 _ hla127
        refine lv_aload_n hx hb dX1_byLaw_130 rfl (lv_at hl 1 rfl) ?_
        refine lv_aload hx hb dX1_byLaw_131 (lv_at hl 3 rfl) ?_
        obtain ⟨_, eb133, hf⟩ := obd hf
        obtain ⟨_, eb133_7, hf⟩ := obd hf
        refine claw (rest := []) hx hb hts hown hE hI hml hl.1 hla127g hn2 ⟨(zb_e eb133).2, (zb_e eb133_7).2⟩ ⟨Nat.le_of_ble_eq_true rfl, Nat.le_of_ble_eq_true rfl⟩ ⟨Nat.le_of_ble_eq_true rfl, Nat.le_of_ble_eq_true rfl⟩ (lv_room (Nat.le_of_ble_eq_true rfl)) dX1_byLaw_133 (fun H locs hI => ?_)
        have hf := Prod.mk.inj (Option.some.inj hf)
        rw [hf.1]
        exact hret H locs 136 ls (hf.2 ▸ hI) dX1_byLaw_136
    · replace hf := ineg hc hf
      refine lv_iconst (v := (1 : Int32)) hx hb dX1_byLaw_118 (by decide) ?_
      refine lv_goto (tgt := 123) hx hb dX1_byLaw_119 (by decide) ?_
      obtain ⟨t123_8, et123_8, hf⟩ := obd hf
      refine gputN hx hb hts in_X4 tyX4 tyX4_ok nmX4 hown hE.1.1 (hI.1.o 3 rfl) rfl 8 (by decide) (hE.1.2.2.f 50 rfl) rfl (zb_n (by decide)) (zb_f (by decide)) (Nat.le_of_ble_eq_true rfl) dX1_byLaw_123 (fun H locs h1 h2 h3 h4 => ?_)
      have hI := hI.putO (σ' := cou t103 (mup (co t103) 3 8 (1 : Int32))) (P := 3) rfl rfl ⟨rfl, rfl⟩ h1 h2 h3 h4
      rw [Option.some.inj et123_8] at hI
      refine lv_aload_n hx hb dX1_byLaw_126 rfl (lv_at hl 0 rfl) ?_
      refine ggetN hx hb hts in_X2 hown hE.1.1 (hI.1.w k1 hk1 0 rfl) rfl 28 (by decide) (hE.1.2.2.f 35 rfl) rfl dX1_byLaw_127 ?_
      rcases hla127_9 : cl t123_8 k1 with _ | la127_9
      · rw [hla127_9] at hf
        replace hf := oelN hf
        refine lv_aload_n hx hb dX1_byLaw_130 rfl (lv_at hl 1 rfl) ?_
        refine lv_aload hx hb dX1_byLaw_131 (lv_at hl 3 rfl) ?_
        cases hf
      · rw [hla127_9] at hf
        replace hf := oelS hf
        have hla127_9g := hI.1.2.2 k1 hk1 _ hla127_9
        refine lv_aload_n hx hb dX1_byLaw_130 rfl (lv_at hl 1 rfl) ?_
        refine lv_aload hx hb dX1_byLaw_131 (lv_at hl 3 rfl) ?_
        obtain ⟨_, eb133_10, hf⟩ := obd hf
        obtain ⟨_, eb133_11, hf⟩ := obd hf
        refine claw (rest := []) hx hb hts hown hE hI hml hl.1 hla127_9g hn2 ⟨(zb_e eb133_10).2, (zb_e eb133_11).2⟩ ⟨Nat.le_of_ble_eq_true rfl, Nat.le_of_ble_eq_true rfl⟩ ⟨Nat.le_of_ble_eq_true rfl, Nat.le_of_ble_eq_true rfl⟩ (lv_room (Nat.le_of_ble_eq_true rfl)) dX1_byLaw_133 (fun H locs hI => ?_)
        have hf := Prod.mk.inj (Option.some.inj hf)
        rw [hf.1]
        exact hret H locs 136 ls (hf.2 ▸ hI) dX1_byLaw_136
  refine lv_aload_n hx hb dX1_byLaw_0 rfl (lv_at hl 1 rfl) ?_
  refine ggetN hx hb hts in_X2 hown hE.1.1 (hI.1.w k1 hk1 0 rfl) rfl 28 (by decide) (hE.1.2.2.f 35 rfl) rfl dX1_byLaw_1 ?_
  rcases hla1 : cl τ k1 with _ | la1
  · rw [hla1] at hf
    replace hf := oelN hf
    refine lv_ifnonnullN hx hb dX1_byLaw_4 ?_
    refine lv_iconst (v := (0 : Int32)) hx hb dX1_byLaw_7 (by decide) ?_
    have hf := Prod.mk.inj (Option.some.inj hf)
    rw [hf.1]
    exact hret H locs 8 ls (hf.2 ▸ hI) dX1_byLaw_8
  · rw [hla1] at hf
    replace hf := oelS hf
    have hla1g := hI.1.2.2 k1 hk1 _ hla1
    refine lv_ifnonnull (tgt := 9) hx hb dX1_byLaw_4 (by decide) ?_
    refine lv_aload_n hx hb dX1_byLaw_9 rfl (lv_at hl 0 rfl) ?_
    refine gget hx hb hts in_X1 hown hE.1.1 (hI.1.o 0 rfl) rfl 5 (by decide) q471 rfl dX1_byLaw_10 ?_
    refine lv_astore (lv' := [(4, .ref (o + 63)), (0, .ref o), (1, .ref (wA o k1)), (2, .ref (aF (7 + n2))), (3, .int a3)]) hx hb dX1_byLaw_13 hl (by decide) rfl (fun ls hl => ?_)
    refine lv_aload hx hb dX1_byLaw_15 (lv_at hl 0 rfl) ?_
    refine lv_iload_n hx hb dX1_byLaw_17 rfl (lv_at hl 4 rfl) ?_
    obtain ⟨t18, et18, hf⟩ := obd hf
    refine gputN hx hb hts in_X4 tyX4 tyX4_ok nmX4 hown hE.1.1 (hI.1.o 3 rfl) rfl 0 (by decide) (hE.1.2.2.f 40 rfl) rfl rfl rfl (Nat.le_of_ble_eq_true rfl) dX1_byLaw_18 (fun H locs h1 h2 h3 h4 => ?_)
    have hI := hI.putO (σ' := cou τ (mup (co τ) 3 0 a3)) (P := 3) rfl rfl ⟨rfl, rfl⟩ h1 h2 h3 h4
    rw [Option.some.inj et18] at hI
    refine lv_aload hx hb dX1_byLaw_21 (lv_at hl 0 rfl) ?_
    refine lv_aload_n hx hb dX1_byLaw_23 rfl (lv_at hl 2 rfl) ?_
    refine ggetN hx hb hts in_X2 hown hE.1.1 (hI.1.w k1 hk1 0 rfl) rfl 16 (by decide) (hE.1.2.2.f 20 rfl) rfl dX1_byLaw_24 ?_
    refine lv_iload_n hx hb dX1_byLaw_27 rfl (lv_at hl 4 rfl) ?_
    obtain ⟨x28, ex28, hf⟩ := obd hf
    refine gald hx hb hE.1.1 0 (hI.1.w k1 hk1 8 rfl) rfl ex28 dX1_byLaw_28 ?_
    obtain ⟨t29, et29, hf⟩ := obd hf
    refine gputN hx hb hts in_X4 tyX4 tyX4_ok nmX4 hown hE.1.1 (hI.1.o 3 rfl) rfl 1 (by decide) (hE.1.2.2.f 41 rfl) rfl rfl rfl (Nat.le_of_ble_eq_true rfl) dX1_byLaw_29 (fun H locs h1 h2 h3 h4 => ?_)
    have hI := hI.putO (σ' := cou t18 (mup (co t18) 3 1 x28)) (P := 3) rfl rfl ⟨rfl, rfl⟩ h1 h2 h3 h4
    rw [Option.some.inj et29] at hI
    refine lv_aload hx hb dX1_byLaw_32 (lv_at hl 0 rfl) ?_
    refine lv_aload_n hx hb dX1_byLaw_34 rfl (lv_at hl 2 rfl) ?_
    refine ggetN hx hb hts in_X2 hown hE.1.1 (hI.1.w k1 hk1 0 rfl) rfl 19 (by decide) (hE.1.2.2.f 26 rfl) rfl dX1_byLaw_35 ?_
    refine lv_iload_n hx hb dX1_byLaw_38 rfl (lv_at hl 4 rfl) ?_
    obtain ⟨x39, ex39, hf⟩ := obd hf
    refine gald hx hb hE.1.1 0 (hI.1.w k1 hk1 11 rfl) rfl ex39 dX1_byLaw_39 ?_
    obtain ⟨t40, et40, hf⟩ := obd hf
    refine gputN hx hb hts in_X4 tyX4 tyX4_ok nmX4 hown hE.1.1 (hI.1.o 3 rfl) rfl 2 (by decide) (hE.1.2.2.f 42 rfl) rfl rfl rfl (Nat.le_of_ble_eq_true rfl) dX1_byLaw_40 (fun H locs h1 h2 h3 h4 => ?_)
    have hI := hI.putO (σ' := cou t29 (mup (co t29) 3 2 x39)) (P := 3) rfl rfl ⟨rfl, rfl⟩ h1 h2 h3 h4
    rw [Option.some.inj et40] at hI
    refine lv_aload hx hb dX1_byLaw_43 (lv_at hl 0 rfl) ?_
    refine lv_aload_n hx hb dX1_byLaw_45 rfl (lv_at hl 2 rfl) ?_
    refine ggetN hx hb hts in_X2 hown hE.1.1 (hI.1.w k1 hk1 0 rfl) rfl 24 (by decide) (hE.1.2.2.f 31 rfl) rfl dX1_byLaw_46 ?_
    refine lv_iload_n hx hb dX1_byLaw_49 rfl (lv_at hl 4 rfl) ?_
    obtain ⟨x50, ex50, hf⟩ := obd hf
    refine gald hx hb hE.1.1 0 (hI.1.w k1 hk1 16 rfl) rfl ex50 dX1_byLaw_50 ?_
    obtain ⟨t51, et51, hf⟩ := obd hf
    refine gputN hx hb hts in_X4 tyX4 tyX4_ok nmX4 hown hE.1.1 (hI.1.o 3 rfl) rfl 3 (by decide) (hE.1.2.2.f 43 rfl) rfl rfl rfl (Nat.le_of_ble_eq_true rfl) dX1_byLaw_51 (fun H locs h1 h2 h3 h4 => ?_)
    have hI := hI.putO (σ' := cou t40 (mup (co t40) 3 3 x50)) (P := 3) rfl rfl ⟨rfl, rfl⟩ h1 h2 h3 h4
    rw [Option.some.inj et51] at hI
    refine lv_aload hx hb dX1_byLaw_54 (lv_at hl 0 rfl) ?_
    refine lv_aload_n hx hb dX1_byLaw_56 rfl (lv_at hl 2 rfl) ?_
    obtain ⟨x57, ex57, hf⟩ := obd hf
    refine cworldI (rest := [.ref (o + 63)]) hx hb hts hown hE hI hml hl.1 (mX2_season (cw t51 k1) _ ex57) hk1 (cwX2_season_X1 hts ⟨Nat.le_of_ble_eq_true rfl, Nat.le_of_ble_eq_true rfl⟩) (congrArg some (cwu_self t51 k1)) ⟨Nat.le_of_ble_eq_true rfl, Nat.le_of_ble_eq_true rfl⟩ rfl rfl (lv_room (Nat.le_of_ble_eq_true rfl)) dX1_byLaw_57 (fun H locs hI => ?_)
    obtain ⟨t60, et60, hf⟩ := obd hf
    refine gputN hx hb hts in_X4 tyX4 tyX4_ok nmX4 hown hE.1.1 (hI.1.o 3 rfl) rfl 4 (by decide) (hE.1.2.2.f 44 rfl) rfl rfl rfl (Nat.le_of_ble_eq_true rfl) dX1_byLaw_60 (fun H locs h1 h2 h3 h4 => ?_)
    have hI := hI.putO (σ' := cou t51 (mup (co t51) 3 4 x57)) (P := 3) rfl rfl ⟨rfl, rfl⟩ h1 h2 h3 h4
    rw [Option.some.inj et60] at hI
    refine lv_aload hx hb dX1_byLaw_63 (lv_at hl 0 rfl) ?_
    refine lv_aload_n hx hb dX1_byLaw_65 rfl (lv_at hl 2 rfl) ?_
    refine ggetN hx hb hts in_X2 hown hE.1.1 (hI.1.w k1 hk1 0 rfl) rfl 9 (by decide) (hE.1.2.2.f 11 rfl) rfl dX1_byLaw_66 ?_
    refine lv_aload_n hx hb dX1_byLaw_69 rfl (lv_at hl 2 rfl) ?_
    obtain ⟨x70, ex70, hf⟩ := obd hf
    refine cworldI (rest := [.ref (wA o k1 + 1), .ref (o + 63)]) hx hb hts hown hE hI hml hl.1 (mX2_season (cw t60 k1) _ ex70) hk1 (cwX2_season_X1 hts ⟨Nat.le_of_ble_eq_true rfl, Nat.le_of_ble_eq_true rfl⟩) (congrArg some (cwu_self t60 k1)) ⟨Nat.le_of_ble_eq_true rfl, Nat.le_of_ble_eq_true rfl⟩ rfl rfl (lv_room (Nat.le_of_ble_eq_true rfl)) dX1_byLaw_70 (fun H locs hI => ?_)
    obtain ⟨x73, ex73, hf⟩ := obd hf
    refine gald hx hb hE.1.1 0 (hI.1.w k1 hk1 1 rfl) rfl ex73 dX1_byLaw_73 ?_
    obtain ⟨t74, et74, hf⟩ := obd hf
    refine gputN hx hb hts in_X4 tyX4 tyX4_ok nmX4 hown hE.1.1 (hI.1.o 3 rfl) rfl 5 (by decide) (hE.1.2.2.f 45 rfl) rfl rfl rfl (Nat.le_of_ble_eq_true rfl) dX1_byLaw_74 (fun H locs h1 h2 h3 h4 => ?_)
    have hI := hI.putO (σ' := cou t60 (mup (co t60) 3 5 x73)) (P := 3) rfl rfl ⟨rfl, rfl⟩ h1 h2 h3 h4
    rw [Option.some.inj et74] at hI
    refine lv_aload hx hb dX1_byLaw_77 (lv_at hl 0 rfl) ?_
    refine lv_aload_n hx hb dX1_byLaw_79 rfl (lv_at hl 2 rfl) ?_
    refine ggetN hx hb hts in_X2 hown hE.1.1 (hI.1.w k1 hk1 0 rfl) rfl 5 (by decide) (hE.1.2.2.f 7 rfl) rfl dX1_byLaw_80 ?_
    obtain ⟨t83, et83, hf⟩ := obd hf
    refine gputN hx hb hts in_X4 tyX4 tyX4_ok nmX4 hown hE.1.1 (hI.1.o 3 rfl) rfl 6 (by decide) (hE.1.2.2.f 46 rfl) rfl rfl rfl (Nat.le_of_ble_eq_true rfl) dX1_byLaw_83 (fun H locs h1 h2 h3 h4 => ?_)
    have hI := hI.putO (σ' := cou t74 (mup (co t74) 3 6 (cw t74 k1 0 5))) (P := 3) rfl rfl ⟨rfl, rfl⟩ h1 h2 h3 h4
    rw [Option.some.inj et83] at hI
    refine lv_aload hx hb dX1_byLaw_86 (lv_at hl 0 rfl) ?_
    refine lv_aload_n hx hb dX1_byLaw_88 rfl (lv_at hl 2 rfl) ?_
    refine ggetN hx hb hts in_X2 hown hE.1.1 (hI.1.w k1 hk1 0 rfl) rfl 21 (by decide) (hE.1.2.2.f 28 rfl) rfl dX1_byLaw_89 ?_
    refine lv_iload_n hx hb dX1_byLaw_92 rfl (lv_at hl 4 rfl) ?_
    obtain ⟨x93, ex93, hf⟩ := obd hf
    refine gald hx hb hE.1.1 0 (hI.1.w k1 hk1 13 rfl) rfl ex93 dX1_byLaw_93 ?_
    refine lv_iconst (v := (-1 : Int32)) hx hb dX1_byLaw_94 (by decide) ?_
    refine lv_icmp_eq (tgt := 102) hx hb dX1_byLaw_95 (by decide) (fun hc => ?_) (fun hc => ?_)
    · replace hf := ipos hc hf
      refine lv_iconst (v := (0 : Int32)) hx hb dX1_byLaw_102 (by decide) ?_
      exact hJ103 t83 (0 : Int32) H locs ls hf hI  (lv_sub hl [2, 3, 4, 0] rfl)
    · replace hf := ineg hc hf
      refine lv_iconst (v := (1 : Int32)) hx hb dX1_byLaw_98 (by decide) ?_
      refine lv_goto (tgt := 103) hx hb dX1_byLaw_99 (by decide) ?_
      exact hJ103 t83 (1 : Int32) H locs ls hf hI  (lv_sub hl [2, 3, 4, 0] rfl)

theorem cwX1_byLaw_X1 {R : Room} {s : State} {args : Array Value} {fr lo : Nat} (hts : ∀ w ∈ lw_all, w.before args s = true) (hR : fr + 1 ≤ R.frames ∧ 8 + (5 + 11) + lo ≤ R.locals) : CallW R s args RX1 RX1 402 yX1_byLaw cX1_byLaw 5 (some .int) (ws_ yX1_byLaw cX1_byLaw 5 (some .int)) ({ frames := fr, cells := 0, slots := 0, locals := lo }) 0 0 3 :=
  cwV 3 hts (lw_V q589 q591 qs4 q133 q592) rfl rfl rfl (by decide +kernel) hR
def X1_ripensBy (Λ : Nat → Nat → (Nat → Int32) → Int32) (τ : Cs) (k1 : Nat) (a2 : Int32) : Option (Int32 × Cs) :=
  (ld 8 (cw τ k1 16) a2).bind fun x11 =>
  (ld 6 (cw τ k1 13) x11).bind fun x12 =>
  (X2_season (cw τ k1)).bind fun x18 =>
  (ld 4 (cw τ k1 9) x18).bind fun x21 =>
  (X1_byLaw Λ τ k1 0 a2).bind fun x33 =>
  (X1_byLaw Λ x33.2 k1 1 a2).bind fun x43 =>
  some ((if (0 : Int32) < ((((1 : Int32) + ((x12 * x21) / (10 : Int32))) + x33.1) - x43.1) then ((((1 : Int32) + ((x12 * x21) / (10 : Int32))) + x33.1) - x43.1) else (0 : Int32)), x43.2)
set_option maxHeartbeats 4000000 in
theorem mX1_ripensBy (Λ : Nat → Nat → (Nat → Int32) → Int32) (Λn : Nat → Int32) (τ : Cs) (k1 : Nat) (a2 : Int32) (hk1 : k1 < 5) (r : Int32) (τ' : Cs) (hf : X1_ripensBy Λ τ k1 a2 = some (r, τ')) : CMi yX1_ripensBy cX1_ripensBy 3 (some .int) 61 3024 Λ Λn (fun o aK aF => [.ref o, .ref (wA o k1), .int a2]) r τ τ' := by
  refine CMi.of (by decide) (fun _ _ _ => Nat.le_of_ble_eq_true rfl) ?_
  intro p l e s m args below meth c D J o z aK aV G Ld aF Q ls hx hb hml hown hts hE hret hI hl
  obtain ⟨H, eH⟩ : ∃ H, H = s.heap := ⟨_, rfl⟩
  obtain ⟨locs, eL⟩ : ∃ L : List Loc, L = [] := ⟨_, rfl⟩
  rw [← eH, ← eL] at hI ⊢
  have hown : s.vm.findClass RX1 = some m.cls := hown
  have hl : lv_has ls 3 [(0, .ref o), (1, .ref (wA o k1)), (2, .int a2)] := hl
  unfold X1_ripensBy at hf
  refine lv_iconst (v := (0 : Int32)) hx hb dX1_ripensBy_0 (by decide) ?_
  refine lv_iconst (v := (1 : Int32)) hx hb dX1_ripensBy_1 (by decide) ?_
  refine lv_aload_n hx hb dX1_ripensBy_2 rfl (lv_at hl 1 rfl) ?_
  refine ggetN hx hb hts in_X2 hown hE.1.1 (hI.1.w k1 hk1 0 rfl) rfl 13 (by decide) (hE.1.2.2.f 16 rfl) rfl dX1_ripensBy_3 ?_
  refine lv_aload_n hx hb dX1_ripensBy_6 rfl (lv_at hl 1 rfl) ?_
  refine ggetN hx hb hts in_X2 hown hE.1.1 (hI.1.w k1 hk1 0 rfl) rfl 16 (by decide) (hE.1.2.2.f 20 rfl) rfl dX1_ripensBy_7 ?_
  refine lv_iload_n hx hb dX1_ripensBy_10 rfl (lv_at hl 2 rfl) ?_
  obtain ⟨x11, ex11, hf⟩ := obd hf
  refine gald hx hb hE.1.1 0 (hI.1.w k1 hk1 8 rfl) rfl ex11 dX1_ripensBy_11 ?_
  obtain ⟨x12, ex12, hf⟩ := obd hf
  refine gald hx hb hE.1.1 0 (hI.1.w k1 hk1 5 rfl) rfl ex12 dX1_ripensBy_12 ?_
  refine lv_aload_n hx hb dX1_ripensBy_13 rfl (lv_at hl 1 rfl) ?_
  refine ggetN hx hb hts in_X2 hown hE.1.1 (hI.1.w k1 hk1 0 rfl) rfl 9 (by decide) (hE.1.2.2.f 11 rfl) rfl dX1_ripensBy_14 ?_
  refine lv_aload_n hx hb dX1_ripensBy_17 rfl (lv_at hl 1 rfl) ?_
  obtain ⟨x18, ex18, hf⟩ := obd hf
  refine cworldI (rest := [.ref (wA o k1 + 1), .int x12, .int (1 : Int32), .int (0 : Int32)]) hx hb hts hown hE hI hml hl.1 (mX2_season (cw τ k1) _ ex18) hk1 (cwX2_season_X1 hts ⟨Nat.le_of_ble_eq_true rfl, Nat.le_of_ble_eq_true rfl⟩) (congrArg some (cwu_self τ k1)) ⟨Nat.le_of_ble_eq_true rfl, Nat.le_of_ble_eq_true rfl⟩ rfl rfl (lv_room (Nat.le_of_ble_eq_true rfl)) dX1_ripensBy_18 (fun H locs hI => ?_)
  obtain ⟨x21, ex21, hf⟩ := obd hf
  refine gald hx hb hE.1.1 0 (hI.1.w k1 hk1 1 rfl) rfl ex21 dX1_ripensBy_21 ?_
  refine lv_imul hx hb dX1_ripensBy_22 ?_
  refine lv_bipush (v := (10 : Int32)) hx hb dX1_ripensBy_23 (by decide) ?_
  refine lv_idiv hx hb dX1_ripensBy_25 (by decide) ?_
  refine lv_iadd hx hb dX1_ripensBy_26 ?_
  refine lv_aload_n hx hb dX1_ripensBy_27 rfl (lv_at hl 0 rfl) ?_
  refine lv_aload_n hx hb dX1_ripensBy_28 rfl (lv_at hl 1 rfl) ?_
  refine va_gets (A := zZ z) hx hb (hE.2.2.2.1.1 0 _ rfl) (hI.zS hE) hown (hts _ q587) (fun _ h => h) dX1_ripensBy_29 ?_
  refine lv_iload_n hx hb dX1_ripensBy_32 rfl (lv_at hl 2 rfl) ?_
  obtain ⟨x33, ex33, hf⟩ := obd hf
  refine ccallI (rest := [.int ((1 : Int32) + ((x12 * x21) / (10 : Int32))), .int (0 : Int32)]) hx hb hts hown hE hI hml hl.1 (mX1_byLaw Λ Λn τ k1 0 a2 hk1 (by decide) _ _ ex33) (cwX1_byLaw_X1 hts ⟨Nat.le_of_ble_eq_true rfl, Nat.le_of_ble_eq_true rfl⟩) (hI.1.o 0 rfl) rfl rfl ⟨Nat.le_of_ble_eq_true rfl, Nat.le_of_ble_eq_true rfl⟩ rfl rfl (lv_room (Nat.le_of_ble_eq_true rfl)) dX1_ripensBy_33 (fun H locs hI => ?_)
  refine lv_iadd hx hb dX1_ripensBy_36 ?_
  refine lv_aload_n hx hb dX1_ripensBy_37 rfl (lv_at hl 0 rfl) ?_
  refine lv_aload_n hx hb dX1_ripensBy_38 rfl (lv_at hl 1 rfl) ?_
  refine va_gets (A := zZ z) hx hb (hE.2.2.2.1.1 1 _ rfl) (hI.zS hE) hown (hts _ q676) (fun _ h => h) dX1_ripensBy_39 ?_
  refine lv_iload_n hx hb dX1_ripensBy_42 rfl (lv_at hl 2 rfl) ?_
  obtain ⟨x43, ex43, hf⟩ := obd hf
  refine ccallI (rest := [.int (((1 : Int32) + ((x12 * x21) / (10 : Int32))) + x33.1), .int (0 : Int32)]) hx hb hts hown hE hI hml hl.1 (mX1_byLaw Λ Λn x33.2 k1 1 a2 hk1 (by decide) _ _ ex43) (cwX1_byLaw_X1 hts ⟨Nat.le_of_ble_eq_true rfl, Nat.le_of_ble_eq_true rfl⟩) (hI.1.o 0 rfl) rfl rfl ⟨Nat.le_of_ble_eq_true rfl, Nat.le_of_ble_eq_true rfl⟩ rfl rfl (lv_room (Nat.le_of_ble_eq_true rfl)) dX1_ripensBy_43 (fun H locs hI => ?_)
  refine lv_isub hx hb dX1_ripensBy_46 ?_
  refine va_mmax hx hb (hml.trans hl.1.symm) hown (hts _ q678) (hts _ q679) (hts _ q150) (hts _ q680) (Nat.le_of_ble_eq_true rfl) (Nat.le_of_ble_eq_true rfl) (Nat.le_of_ble_eq_true rfl) (Nat.le_of_ble_eq_true rfl) dX1_ripensBy_47 ?_
  have hf := Prod.mk.inj (Option.some.inj hf)
  rw [hf.1]
  exact hret H locs 50 ls (hf.2 ▸ hI) dX1_ripensBy_50

def X1_costsOf (Λ : Nat → Nat → (Nat → Int32) → Int32) (τ : Cs) (k1 : Nat) (a2 : Int32) : Option (Int32 × Cs) :=
  (X1_byLaw Λ τ k1 2 a2).bind fun x10 =>
  some (((cw τ k1 0 5) + x10.1), x10.2)
set_option maxHeartbeats 4000000 in
theorem mX1_costsOf (Λ : Nat → Nat → (Nat → Int32) → Int32) (Λn : Nat → Int32) (τ : Cs) (k1 : Nat) (a2 : Int32) (hk1 : k1 < 5) (r : Int32) (τ' : Cs) (hf : X1_costsOf Λ τ k1 a2 = some (r, τ')) : CMi yX1_costsOf cX1_costsOf 3 (some .int) 61 3024 Λ Λn (fun o aK aF => [.ref o, .ref (wA o k1), .int a2]) r τ τ' := by
  refine CMi.of (by decide) (fun _ _ _ => Nat.le_of_ble_eq_true rfl) ?_
  intro p l e s m args below meth c D J o z aK aV G Ld aF Q ls hx hb hml hown hts hE hret hI hl
  obtain ⟨H, eH⟩ : ∃ H, H = s.heap := ⟨_, rfl⟩
  obtain ⟨locs, eL⟩ : ∃ L : List Loc, L = [] := ⟨_, rfl⟩
  rw [← eH, ← eL] at hI ⊢
  have hown : s.vm.findClass RX1 = some m.cls := hown
  have hl : lv_has ls 3 [(0, .ref o), (1, .ref (wA o k1)), (2, .int a2)] := hl
  unfold X1_costsOf at hf
  refine lv_aload_n hx hb dX1_costsOf_0 rfl (lv_at hl 1 rfl) ?_
  refine ggetN hx hb hts in_X2 hown hE.1.1 (hI.1.w k1 hk1 0 rfl) rfl 5 (by decide) (hE.1.2.2.f 7 rfl) rfl dX1_costsOf_1 ?_
  refine lv_aload_n hx hb dX1_costsOf_4 rfl (lv_at hl 0 rfl) ?_
  refine lv_aload_n hx hb dX1_costsOf_5 rfl (lv_at hl 1 rfl) ?_
  refine va_gets (A := zZ z) hx hb (hE.2.2.2.1.1 2 _ rfl) (hI.zS hE) hown (hts _ q1763) (fun _ h => h) dX1_costsOf_6 ?_
  refine lv_iload_n hx hb dX1_costsOf_9 rfl (lv_at hl 2 rfl) ?_
  obtain ⟨x10, ex10, hf⟩ := obd hf
  refine ccallI (rest := [.int (cw τ k1 0 5)]) hx hb hts hown hE hI hml hl.1 (mX1_byLaw Λ Λn τ k1 2 a2 hk1 (by decide) _ _ ex10) (cwX1_byLaw_X1 hts ⟨Nat.le_of_ble_eq_true rfl, Nat.le_of_ble_eq_true rfl⟩) (hI.1.o 0 rfl) rfl rfl ⟨Nat.le_of_ble_eq_true rfl, Nat.le_of_ble_eq_true rfl⟩ rfl rfl (lv_room (Nat.le_of_ble_eq_true rfl)) dX1_costsOf_10 (fun H locs hI => ?_)
  refine lv_iadd hx hb dX1_costsOf_13 ?_
  have hf := Prod.mk.inj (Option.some.inj hf)
  rw [hf.1]
  exact hret H locs 14 ls (hf.2 ▸ hI) dX1_costsOf_14

theorem cwX1_ripensBy_X1 {R : Room} {s : State} {args : Array Value} {fr lo : Nat} (hts : ∀ w ∈ lw_all, w.before args s = true) (hR : fr + 1 ≤ R.frames ∧ 8 + (3 + 11) + lo ≤ R.locals) : CallW R s args RX1 RX1 417 yX1_ripensBy cX1_ripensBy 3 (some .int) (ws_ yX1_ripensBy cX1_ripensBy 3 (some .int)) ({ frames := fr, cells := 0, slots := 0, locals := lo }) 0 0 2 :=
  cwV 2 hts (lw_V q579 q581 qs3 q133 q582) rfl rfl rfl (by decide +kernel) hR
theorem cwX2_comesUp_X1 {R : Room} {s : State} {args : Array Value} {fr lo : Nat} (hts : ∀ w ∈ lw_all, w.before args s = true) (hR : fr + 1 ≤ R.frames ∧ 8 + (2 + 11) + lo ≤ R.locals) : CallW R s args RX1 RX2 424 yX2_comesUp cX2_comesUp 2 (none) (ws_ yX2_comesUp cX2_comesUp 2 (none)) ({ frames := fr, cells := 0, slots := 0, locals := lo }) 0 0 1 :=
  cwV 1 hts (lw_V q684 q685 q686 q134 q687) rfl rfl rfl (by decide +kernel) hR
def X1_ripens (Λ : Nat → Nat → (Nat → Int32) → Int32) (τ : Cs) (k1 : Nat) (a2 : Int32) (a3 : Int32) : Option (Cs) :=
  (ld 8 (cw τ k1 24) a2).bind fun x13 =>
  (X1_ripensBy Λ τ k1 a2).bind fun x17 =>
  (stof 8 (cw x17.2 k1 24) a2 (if ((x13 + x17.1) + a3) < (999 : Int32) then ((x13 + x17.1) + a3) else (999 : Int32))).bind fun g26 =>
  (some (cwu x17.2 k1 (mset (cw x17.2 k1) 24 g26))).bind fun t26 =>
  (ld 8 (cw t26 k1 24) a2).bind fun x32 =>
  (ld 8 (cw t26 k1 16) a2).bind fun x42 =>
  (ld 6 (cw t26 k1 11) x42).bind fun x43 =>
  if x32 < x43 then
    some t26
  else
    (X2_comesUp (cw t26 k1) a2).bind fun x49 =>
    (some (cwu t26 k1 x49)).bind fun t49 =>
    some t49
set_option maxHeartbeats 4000000 in
theorem mX1_ripens (Λ : Nat → Nat → (Nat → Int32) → Int32) (Λn : Nat → Int32) (τ : Cs) (k1 : Nat) (a2 : Int32) (a3 : Int32) (hk1 : k1 < 5) (τ' : Cs) (hf : X1_ripens Λ τ k1 a2 a3 = some τ') : CMv yX1_ripens cX1_ripens 4 none 62 3046 Λ Λn (fun o aK aF => [.ref o, .ref (wA o k1), .int a2, .int a3]) τ τ' := by
  refine CMv.of (by decide) (fun _ _ _ => Nat.le_of_ble_eq_true rfl) ?_
  intro p l e s m args below meth c D J o z aK aV G Ld aF Q ls hx hb hml hown hts hE hret hI hl
  obtain ⟨H, eH⟩ : ∃ H, H = s.heap := ⟨_, rfl⟩
  obtain ⟨locs, eL⟩ : ∃ L : List Loc, L = [] := ⟨_, rfl⟩
  rw [← eH, ← eL] at hI ⊢
  have hown : s.vm.findClass RX1 = some m.cls := hown
  have hl : lv_has ls 4 [(0, .ref o), (1, .ref (wA o k1)), (2, .int a2), (3, .int a3)] := hl
  unfold X1_ripens at hf
  refine lv_aload_n hx hb dX1_ripens_0 rfl (lv_at hl 1 rfl) ?_
  refine ggetN hx hb hts in_X2 hown hE.1.1 (hI.1.w k1 hk1 0 rfl) rfl 24 (by decide) (hE.1.2.2.f 31 rfl) rfl dX1_ripens_1 ?_
  refine lv_iload_n hx hb dX1_ripens_4 rfl (lv_at hl 2 rfl) ?_
  refine lv_sipush (v := (999 : Int32)) hx hb dX1_ripens_5 (by decide) ?_
  refine lv_aload_n hx hb dX1_ripens_8 rfl (lv_at hl 1 rfl) ?_
  refine ggetN hx hb hts in_X2 hown hE.1.1 (hI.1.w k1 hk1 0 rfl) rfl 24 (by decide) (hE.1.2.2.f 31 rfl) rfl dX1_ripens_9 ?_
  refine lv_iload_n hx hb dX1_ripens_12 rfl (lv_at hl 2 rfl) ?_
  obtain ⟨x13, ex13, hf⟩ := obd hf
  refine gald hx hb hE.1.1 0 (hI.1.w k1 hk1 16 rfl) rfl ex13 dX1_ripens_13 ?_
  refine lv_aload_n hx hb dX1_ripens_14 rfl (lv_at hl 0 rfl) ?_
  refine lv_aload_n hx hb dX1_ripens_15 rfl (lv_at hl 1 rfl) ?_
  refine lv_iload_n hx hb dX1_ripens_16 rfl (lv_at hl 2 rfl) ?_
  obtain ⟨x17, ex17, hf⟩ := obd hf
  refine ccallI (rest := [.int x13, .int (999 : Int32), .int a2, .ref (wA o k1 + 16)]) hx hb hts hown hE hI hml hl.1 (mX1_ripensBy Λ Λn τ k1 a2 hk1 _ _ ex17) (cwX1_ripensBy_X1 hts ⟨Nat.le_of_ble_eq_true rfl, Nat.le_of_ble_eq_true rfl⟩) (hI.1.o 0 rfl) rfl rfl ⟨Nat.le_of_ble_eq_true rfl, Nat.le_of_ble_eq_true rfl⟩ rfl rfl (lv_room (Nat.le_of_ble_eq_true rfl)) dX1_ripens_17 (fun H locs hI => ?_)
  refine lv_iadd hx hb dX1_ripens_20 ?_
  refine lv_iload_n hx hb dX1_ripens_21 rfl (lv_at hl 3 rfl) ?_
  refine lv_iadd hx hb dX1_ripens_22 ?_
  refine va_mmin hx hb (hml.trans hl.1.symm) hown (hts _ q681) (hts _ q682) (hts _ q150) (hts _ q683) (Nat.le_of_ble_eq_true rfl) (Nat.le_of_ble_eq_true rfl) (Nat.le_of_ble_eq_true rfl) (Nat.le_of_ble_eq_true rfl) dX1_ripens_23 ?_
  obtain ⟨g26, eg26, hf⟩ := obd hf
  obtain ⟨t26, et26, hf⟩ := obd hf
  refine gast hx hb hE.1.1 0 (hI.1.w k1 hk1 16 rfl) rfl eg26 dX1_ripens_26 (fun H locs h1 h2 h3 h4 => ?_)
  have hI := hI.putW (k := k1) (w' := mset (cw x17.2 k1) 24 g26) (P := 16) hk1 rfl rfl h1 h2 h3 h4
  rw [Option.some.inj et26] at hI
  refine lv_aload_n hx hb dX1_ripens_27 rfl (lv_at hl 1 rfl) ?_
  refine ggetN hx hb hts in_X2 hown hE.1.1 (hI.1.w k1 hk1 0 rfl) rfl 24 (by decide) (hE.1.2.2.f 31 rfl) rfl dX1_ripens_28 ?_
  refine lv_iload_n hx hb dX1_ripens_31 rfl (lv_at hl 2 rfl) ?_
  obtain ⟨x32, ex32, hf⟩ := obd hf
  refine gald hx hb hE.1.1 0 (hI.1.w k1 hk1 16 rfl) rfl ex32 dX1_ripens_32 ?_
  refine lv_aload_n hx hb dX1_ripens_33 rfl (lv_at hl 1 rfl) ?_
  refine ggetN hx hb hts in_X2 hown hE.1.1 (hI.1.w k1 hk1 0 rfl) rfl 11 (by decide) (hE.1.2.2.f 13 rfl) rfl dX1_ripens_34 ?_
  refine lv_aload_n hx hb dX1_ripens_37 rfl (lv_at hl 1 rfl) ?_
  refine ggetN hx hb hts in_X2 hown hE.1.1 (hI.1.w k1 hk1 0 rfl) rfl 16 (by decide) (hE.1.2.2.f 20 rfl) rfl dX1_ripens_38 ?_
  refine lv_iload_n hx hb dX1_ripens_41 rfl (lv_at hl 2 rfl) ?_
  obtain ⟨x42, ex42, hf⟩ := obd hf
  refine gald hx hb hE.1.1 0 (hI.1.w k1 hk1 8 rfl) rfl ex42 dX1_ripens_42 ?_
  obtain ⟨x43, ex43, hf⟩ := obd hf
  refine gald hx hb hE.1.1 0 (hI.1.w k1 hk1 3 rfl) rfl ex43 dX1_ripens_43 ?_
  refine lv_icmp_lt (tgt := 52) hx hb dX1_ripens_44 (by decide) (fun hc => ?_) (fun hc => ?_)
  · replace hf := ipos hc hf
    exact hret H locs 52 ls ((Option.some.inj hf) ▸ hI) dX1_ripens_52
  · replace hf := ineg hc hf
    refine lv_aload_n hx hb dX1_ripens_47 rfl (lv_at hl 1 rfl) ?_
    refine lv_iload_n hx hb dX1_ripens_48 rfl (lv_at hl 2 rfl) ?_
    obtain ⟨x49, ex49, hf⟩ := obd hf
    obtain ⟨t49, et49, hf⟩ := obd hf
    refine cworldV (rest := []) hx hb hts hown hE hI hml hl.1 (mX2_comesUp (cw t26 k1) a2 _ ex49) hk1 (cwX2_comesUp_X1 hts ⟨Nat.le_of_ble_eq_true rfl, Nat.le_of_ble_eq_true rfl⟩) et49 ⟨Nat.le_of_ble_eq_true rfl, Nat.le_of_ble_eq_true rfl⟩ rfl rfl (lv_room (Nat.le_of_ble_eq_true rfl)) dX1_ripens_49 (fun H locs hI => ?_)
    exact hret H locs 52 ls ((Option.some.inj hf) ▸ hI) dX1_ripens_52

theorem cwX1_ripens_X1 {R : Room} {s : State} {args : Array Value} {fr lo : Nat} (hts : ∀ w ∈ lw_all, w.before args s = true) (hR : fr + 1 ≤ R.frames ∧ 8 + (4 + 11) + lo ≤ R.locals) : CallW R s args RX1 RX1 430 yX1_ripens cX1_ripens 4 (none) (ws_ yX1_ripens cX1_ripens 4 (none)) ({ frames := fr, cells := 0, slots := 0, locals := lo }) 0 0 3 :=
  cwV 3 hts (lw_V q575 q577 qs2 q133 q578) rfl rfl rfl (by decide +kernel) hR
theorem cwX2_fades_X1 {R : Room} {s : State} {args : Array Value} {fr lo : Nat} (hts : ∀ w ∈ lw_all, w.before args s = true) (hR : fr + 1 ≤ R.frames ∧ 8 + (3 + 11) + lo ≤ R.locals) : CallW R s args RX1 RX2 434 yX2_fades cX2_fades 3 (none) (ws_ yX2_fades cX2_fades 3 (none)) ({ frames := fr, cells := 0, slots := 0, locals := lo }) 0 0 1 :=
  cwV 1 hts (lw_V q693 q694 q695 q134 q696) rfl rfl rfl (by decide +kernel) hR
theorem cwX2_pays_X1 {R : Room} {s : State} {args : Array Value} {fr lo : Nat} (hts : ∀ w ∈ lw_all, w.before args s = true) (hR : fr + 1 ≤ R.frames ∧ 8 + (5 + 11) + lo ≤ R.locals) : CallW R s args RX1 RX2 437 yX2_pays cX2_pays 5 (some .boolean) (ws_ yX2_pays cX2_pays 5 (some .boolean)) ({ frames := fr, cells := 0, slots := 0, locals := lo }) 0 0 1 :=
  cwV 1 hts (lw_V q697 q698 q699 q134 q700) rfl rfl rfl (by decide +kernel) hR
def X1_aSeason_L5 (Λ : Nat → Nat → (Nat → Int32) → Int32) (k1 : Nat) (c2 : Int32) (w5 : Cs × Int32) : Option ((Cs × Int32) ⊕ (Cs)) :=
  if (cw w5.1 k1 0 3) ≤ w5.2 then
    some (.inr w5.1)
  else
    (ld 8 (cw w5.1 k1 26) w5.2).bind fun x20 =>
    if x20 = (0 : Int32) then
      (X1_ripens Λ w5.1 k1 w5.2 c2).bind fun t29 =>
      (some (w5.2 + (1 : Int32))).bind fun v32_5 =>
      some (.inl (t29, v32_5))
    else
      (some (w5.2 + (1 : Int32))).bind fun v32 =>
      some (.inl (w5.1, v32))
def X1_aSeason_L41 (Λ : Nat → Nat → (Nat → Int32) → Int32) (k1 : Nat) (w41 : Cs × Int32) : Option ((Cs × Int32) ⊕ (Cs)) :=
  if (cw w41.1 k1 0 3) ≤ w41.2 then
    some (.inr w41.1)
  else
    (X2_fades (cw w41.1 k1) w41.2).bind fun x53 =>
    (some (cwu w41.1 k1 x53)).bind fun t53 =>
    (some (w41.2 + (1 : Int32))).bind fun v56 =>
    some (.inl (t53, v56))
def X1_aSeason_L65 (Λ : Nat → Nat → (Nat → Int32) → Int32) (k1 : Nat) (w65 : Cs × Int32 × Int32) : Option ((Cs × Int32 × Int32) ⊕ (Cs × Int32)) :=
  if (cw w65.1 k1 0 3) ≤ w65.2.2 then
    some (.inr (w65.1, w65.2.1))
  else
    (X2_pays (cw w65.1 k1) w65.2.2).bind fun x78 =>
    (some (cwu w65.1 k1 x78.2)).bind fun t78 =>
    if x78.1 = (0 : Int32) then
      (some (w65.2.1 + (0 : Int32))).bind fun v90 =>
      (some (w65.2.2 + (1 : Int32))).bind fun v91 =>
      some (.inl (t78, v90, v91))
    else
      (some (w65.2.1 + (1 : Int32))).bind fun v90_13 =>
      (some (w65.2.2 + (1 : Int32))).bind fun v91_14 =>
      some (.inl (t78, v90_13, v91_14))
def X1_aSeason (Λ : Nat → Nat → (Nat → Int32) → Int32) (τ : Cs) (k1 : Nat) (a2 : Int32) : Option (Int32 × Cs) :=
  (loopO (X1_aSeason_L5 Λ k1 a2) FU (τ, (0 : Int32))).bind fun e5 =>
  (loopO (X1_aSeason_L41 Λ k1) FU (e5, (0 : Int32))).bind fun e41 =>
  (loopO (X1_aSeason_L65 Λ k1) FU (e41, (0 : Int32), (0 : Int32))).bind fun e65 =>
  (some (cwu e65.1 k1 (mup (cw e65.1 k1) 0 4 (if ((cw e65.1 k1 0 4) + (1 : Int32)) < (9999 : Int32) then ((cw e65.1 k1 0 4) + (1 : Int32)) else (9999 : Int32))))).bind fun t110 =>
  some (e65.2, t110)
set_option maxHeartbeats 4000000 in
theorem mX1_aSeason (Λ : Nat → Nat → (Nat → Int32) → Int32) (Λn : Nat → Int32) (τ : Cs) (k1 : Nat) (a2 : Int32) (hk1 : k1 < 5) (r : Int32) (τ' : Cs) (hf : X1_aSeason Λ τ k1 a2 = some (r, τ')) : CMi yX1_aSeason cX1_aSeason 5 (some .int) 63 3069 Λ Λn (fun o aK aF => [.ref o, .ref (wA o k1), .int a2]) r τ τ' := by
  refine CMi.of (by decide) (fun _ _ _ => Nat.le_of_ble_eq_true rfl) ?_
  intro p l e s m args below meth c D J o z aK aV G Ld aF Q ls hx hb hml hown hts hE hret hI hl
  obtain ⟨H, eH⟩ : ∃ H, H = s.heap := ⟨_, rfl⟩
  obtain ⟨locs, eL⟩ : ∃ L : List Loc, L = [] := ⟨_, rfl⟩
  rw [← eH, ← eL] at hI ⊢
  have hown : s.vm.findClass RX1 = some m.cls := hown
  have hl : lv_has ls 5 [(0, .ref o), (1, .ref (wA o k1)), (2, .int a2)] := hl
  unfold X1_aSeason at hf
  refine lv_iconst (v := (0 : Int32)) hx hb dX1_aSeason_0 (by decide) ?_
  refine lv_istore_n (lv' := [(3, .int (0 : Int32)), (0, .ref o), (1, .ref (wA o k1)), (2, .int a2)]) hx hb dX1_aSeason_1 rfl hl (by decide) rfl (fun ls hl => ?_)
  refine lv_iconst (v := (0 : Int32)) hx hb dX1_aSeason_2 (by decide) ?_
  refine lv_istore (lv' := [(4, .int (0 : Int32)), (3, .int (0 : Int32)), (0, .ref o), (1, .ref (wA o k1)), (2, .int a2)]) hx hb dX1_aSeason_3 hl (by decide) rfl (fun ls hl => ?_)
  obtain ⟨e5, he5, hf⟩ := obd hf
  have hs5 : ∀ (c2 : Int32), ∀ (w5 : Cs × Int32) (o5 : (Cs × Int32) ⊕ (Cs)), X1_aSeason_L5 Λ k1 c2 w5 = some o5 → (∀ wx_, o5 = .inl wx_ → ∀ (H : Heap) (locs : List Loc) (ls : Array Slot), IC D J o Ld s H locs wx_.1 → lv_has ls 5 [(0, .ref o), (1, .ref (wA o k1)), (2, .int c2), (3, .int (0 : Int32)), (4, .int wx_.2)] → W p l e ({ frames := 63, cells := 0, slots := 0, locals := 3069 } : Room) s m args below meth c H locs 0 0 Q (F0 m 5 ls [])) → (∀ ex_, o5 = .inr ex_ → ∀ (H : Heap) (locs : List Loc) (ls : Array Slot), IC D J o Ld s H locs ex_ → lv_has ls 5 [(1, .ref (wA o k1)), (3, .int (0 : Int32))] → W p l e ({ frames := 63, cells := 0, slots := 0, locals := 3069 } : Room) s m args below meth c H locs 0 0 Q (F0 m 38 ls [])) → ∀ (H : Heap) (locs : List Loc) (ls : Array Slot), IC D J o Ld s H locs w5.1 → lv_has ls 5 [(0, .ref o), (1, .ref (wA o k1)), (2, .int c2), (3, .int (0 : Int32)), (4, .int w5.2)] → W p l e ({ frames := 63, cells := 0, slots := 0, locals := 3069 } : Room) s m args below meth c H locs 0 0 Q (F0 m 5 ls []) := by
    intro c2 w5 o5 hf hk hq H locs ls hI hl
    unfold X1_aSeason_L5 at hf
    refine lv_iload hx hb dX1_aSeason_5 (lv_at hl 4 rfl) ?_
    refine lv_aload_n hx hb dX1_aSeason_7 rfl (lv_at hl 1 rfl) ?_
    refine ggetN hx hb hts in_X2 hown hE.1.1 (hI.1.w k1 hk1 0 rfl) rfl 3 (by decide) (hE.1.2.2.f 5 rfl) rfl dX1_aSeason_8 ?_
    refine lv_icmp_ge (tgt := 38) hx hb dX1_aSeason_11 (by decide) (fun hc => ?_) (fun hc => ?_)
    · replace hf := ipos hc hf
      exact hq _ (Option.some.inj hf).symm H locs ls hI (lv_sub hl [1, 3] rfl)
    · replace hf := ineg hc hf
      refine lv_aload_n hx hb dX1_aSeason_14 rfl (lv_at hl 1 rfl) ?_
      refine ggetN hx hb hts in_X2 hown hE.1.1 (hI.1.w k1 hk1 0 rfl) rfl 26 (by decide) (hE.1.2.2.f 33 rfl) rfl dX1_aSeason_15 ?_
      refine lv_iload hx hb dX1_aSeason_18 (lv_at hl 4 rfl) ?_
      obtain ⟨x20, ex20, hf⟩ := obd hf
      refine gald hx hb hE.1.1 0 (hI.1.w k1 hk1 18 rfl) rfl ex20 dX1_aSeason_20 ?_
      refine lv_if_ne (tgt := 32) hx hb dX1_aSeason_21 (by decide) (fun hc => ?_) (fun hc => ?_)
      · replace hf := ineg hc hf
        obtain ⟨v32, ev32, hf⟩ := obd hf
        refine lv_iinc (v := v32) (lv' := [(4, .int v32), (0, .ref o), (1, .ref (wA o k1)), (2, .int c2), (3, .int (0 : Int32))]) hx hb dX1_aSeason_32 hl (k := 4) rfl (iiE ev32 (by decide)) (by decide) rfl (fun ls hl => ?_)
        refine lv_goto (tgt := 5) hx hb dX1_aSeason_35 (by decide) ?_
        exact hk _ (Option.some.inj hf).symm H locs ls hI (lv_sub hl [1, 2, 3, 4, 0] rfl)
      · replace hf := ipos hc hf
        refine lv_aload_n hx hb dX1_aSeason_24 rfl (lv_at hl 0 rfl) ?_
        refine lv_aload_n hx hb dX1_aSeason_25 rfl (lv_at hl 1 rfl) ?_
        refine lv_iload hx hb dX1_aSeason_26 (lv_at hl 4 rfl) ?_
        refine lv_iload_n hx hb dX1_aSeason_28 rfl (lv_at hl 2 rfl) ?_
        obtain ⟨t29, et29, hf⟩ := obd hf
        refine ccallV (rest := []) hx hb hts hown hE hI hml hl.1 (mX1_ripens Λ Λn w5.1 k1 w5.2 c2 hk1 _ et29) (cwX1_ripens_X1 hts ⟨Nat.le_of_ble_eq_true rfl, Nat.le_of_ble_eq_true rfl⟩) (hI.1.o 0 rfl) rfl rfl ⟨Nat.le_of_ble_eq_true rfl, Nat.le_of_ble_eq_true rfl⟩ rfl rfl (lv_room (Nat.le_of_ble_eq_true rfl)) dX1_aSeason_29 (fun H locs hI => ?_)
        obtain ⟨v32_5, ev32_5, hf⟩ := obd hf
        refine lv_iinc (v := v32_5) (lv' := [(4, .int v32_5), (0, .ref o), (1, .ref (wA o k1)), (2, .int c2), (3, .int (0 : Int32))]) hx hb dX1_aSeason_32 hl (k := 4) rfl (iiE ev32_5 (by decide)) (by decide) rfl (fun ls hl => ?_)
        refine lv_goto (tgt := 5) hx hb dX1_aSeason_35 (by decide) ?_
        exact hk _ (Option.some.inj hf).symm H locs ls hI (lv_sub hl [1, 2, 3, 4, 0] rfl)
  refine loopO_W (Wat := fun w5 => ∀ (H : Heap) (locs : List Loc) (ls : Array Slot), IC D J o Ld s H locs w5.1 → lv_has ls 5 [(0, .ref o), (1, .ref (wA o k1)), (2, .int a2), (3, .int (0 : Int32)), (4, .int w5.2)] → W p l e ({ frames := 63, cells := 0, slots := 0, locals := 3069 } : Room) s m args below meth c H locs 0 0 Q (F0 m 5 ls [])) (Wex := fun ex_ => ∀ (H : Heap) (locs : List Loc) (ls : Array Slot), IC D J o Ld s H locs ex_ → lv_has ls 5 [(1, .ref (wA o k1)), (3, .int (0 : Int32))] → W p l e ({ frames := 63, cells := 0, slots := 0, locals := 3069 } : Room) s m args below meth c H locs 0 0 Q (F0 m 38 ls [])) (hs5 a2) FU _ e5 he5 ?_ H locs ls hI (lv_sub hl [2, 3, 4, 1, 0] rfl)
  · skip
    intro H locs ls hI hl
    refine lv_iconst (v := (0 : Int32)) hx hb dX1_aSeason_38 (by decide) ?_
    refine lv_istore (lv' := [(4, .int (0 : Int32)), (1, .ref (wA o k1)), (3, .int (0 : Int32))]) hx hb dX1_aSeason_39 hl (by decide) rfl (fun ls hl => ?_)
    obtain ⟨e41, he41, hf⟩ := obd hf
    refine loopO_W (Wat := fun w41 => ∀ (H : Heap) (locs : List Loc) (ls : Array Slot), IC D J o Ld s H locs w41.1 → lv_has ls 5 [(1, .ref (wA o k1)), (3, .int (0 : Int32)), (4, .int w41.2)] → W p l e ({ frames := 63, cells := 0, slots := 0, locals := 3069 } : Room) s m args below meth c H locs 0 0 Q (F0 m 41 ls [])) (Wex := fun ex_ => ∀ (H : Heap) (locs : List Loc) (ls : Array Slot), IC D J o Ld s H locs ex_ → lv_has ls 5 [(1, .ref (wA o k1)), (3, .int (0 : Int32))] → W p l e ({ frames := 63, cells := 0, slots := 0, locals := 3069 } : Room) s m args below meth c H locs 0 0 Q (F0 m 62 ls [])) (fun w41 o41 hf hk hq => ?_) FU _ e41 he41 ?_ H locs ls hI (lv_sub hl [1, 2, 0] rfl)
    · intro H locs ls hI hl
      unfold X1_aSeason_L41 at hf
      refine lv_iload hx hb dX1_aSeason_41 (lv_at hl 2 rfl) ?_
      refine lv_aload_n hx hb dX1_aSeason_43 rfl (lv_at hl 0 rfl) ?_
      refine ggetN hx hb hts in_X2 hown hE.1.1 (hI.1.w k1 hk1 0 rfl) rfl 3 (by decide) (hE.1.2.2.f 5 rfl) rfl dX1_aSeason_44 ?_
      refine lv_icmp_ge (tgt := 62) hx hb dX1_aSeason_47 (by decide) (fun hc => ?_) (fun hc => ?_)
      · replace hf := ipos hc hf
        exact hq _ (Option.some.inj hf).symm H locs ls hI (lv_sub hl [0, 1] rfl)
      · replace hf := ineg hc hf
        refine lv_aload_n hx hb dX1_aSeason_50 rfl (lv_at hl 0 rfl) ?_
        refine lv_iload hx hb dX1_aSeason_51 (lv_at hl 2 rfl) ?_
        obtain ⟨x53, ex53, hf⟩ := obd hf
        obtain ⟨t53, et53, hf⟩ := obd hf
        refine cworldV (rest := []) hx hb hts hown hE hI hml hl.1 (mX2_fades (cw w41.1 k1) w41.2 _ ex53) hk1 (cwX2_fades_X1 hts ⟨Nat.le_of_ble_eq_true rfl, Nat.le_of_ble_eq_true rfl⟩) et53 ⟨Nat.le_of_ble_eq_true rfl, Nat.le_of_ble_eq_true rfl⟩ rfl rfl (lv_room (Nat.le_of_ble_eq_true rfl)) dX1_aSeason_53 (fun H locs hI => ?_)
        obtain ⟨v56, ev56, hf⟩ := obd hf
        refine lv_iinc (v := v56) (lv' := [(4, .int v56), (1, .ref (wA o k1)), (3, .int (0 : Int32))]) hx hb dX1_aSeason_56 hl (k := 2) rfl (iiE ev56 (by decide)) (by decide) rfl (fun ls hl => ?_)
        refine lv_goto (tgt := 41) hx hb dX1_aSeason_59 (by decide) ?_
        exact hk _ (Option.some.inj hf).symm H locs ls hI (lv_sub hl [1, 2, 0] rfl)
    · skip
      intro H locs ls hI hl
      refine lv_iconst (v := (0 : Int32)) hx hb dX1_aSeason_62 (by decide) ?_
      refine lv_istore (lv' := [(4, .int (0 : Int32)), (1, .ref (wA o k1)), (3, .int (0 : Int32))]) hx hb dX1_aSeason_63 hl (by decide) rfl (fun ls hl => ?_)
      obtain ⟨e65, he65, hf⟩ := obd hf
      refine loopO_W (Wat := fun w65 => ∀ (H : Heap) (locs : List Loc) (ls : Array Slot), IC D J o Ld s H locs w65.1 → lv_has ls 5 [(1, .ref (wA o k1)), (3, .int w65.2.1), (4, .int w65.2.2)] → W p l e ({ frames := 63, cells := 0, slots := 0, locals := 3069 } : Room) s m args below meth c H locs 0 0 Q (F0 m 65 ls [])) (Wex := fun ex_ => ∀ (H : Heap) (locs : List Loc) (ls : Array Slot), IC D J o Ld s H locs ex_.1 → lv_has ls 5 [(1, .ref (wA o k1)), (3, .int ex_.2)] → W p l e ({ frames := 63, cells := 0, slots := 0, locals := 3069 } : Room) s m args below meth c H locs 0 0 Q (F0 m 97 ls [])) (fun w65 o65 hf hk hq => ?_) FU _ e65 he65 ?_ H locs ls hI (lv_sub hl [1, 2, 0] rfl)
      · intro H locs ls hI hl
        unfold X1_aSeason_L65 at hf
        refine lv_iload hx hb dX1_aSeason_65 (lv_at hl 2 rfl) ?_
        refine lv_aload_n hx hb dX1_aSeason_67 rfl (lv_at hl 0 rfl) ?_
        refine ggetN hx hb hts in_X2 hown hE.1.1 (hI.1.w k1 hk1 0 rfl) rfl 3 (by decide) (hE.1.2.2.f 5 rfl) rfl dX1_aSeason_68 ?_
        refine lv_icmp_ge (tgt := 97) hx hb dX1_aSeason_71 (by decide) (fun hc => ?_) (fun hc => ?_)
        · replace hf := ipos hc hf
          exact hq _ (Option.some.inj hf).symm H locs ls hI (lv_sub hl [0, 1] rfl)
        · replace hf := ineg hc hf
          refine lv_iload_n hx hb dX1_aSeason_74 rfl (lv_at hl 1 rfl) ?_
          refine lv_aload_n hx hb dX1_aSeason_75 rfl (lv_at hl 0 rfl) ?_
          refine lv_iload hx hb dX1_aSeason_76 (lv_at hl 2 rfl) ?_
          obtain ⟨x78, ex78, hf⟩ := obd hf
          obtain ⟨t78, et78, hf⟩ := obd hf
          refine cworldI (rest := [.int w65.2.1]) hx hb hts hown hE hI hml hl.1 (mX2_pays (cw w65.1 k1) w65.2.2 _ _ ex78) hk1 (cwX2_pays_X1 hts ⟨Nat.le_of_ble_eq_true rfl, Nat.le_of_ble_eq_true rfl⟩) et78 ⟨Nat.le_of_ble_eq_true rfl, Nat.le_of_ble_eq_true rfl⟩ rfl rfl (lv_room (Nat.le_of_ble_eq_true rfl)) dX1_aSeason_78 (fun H locs hI => ?_)
          refine lv_if_eq (tgt := 88) hx hb dX1_aSeason_81 (by decide) (fun hc => ?_) (fun hc => ?_)
          · replace hf := ipos hc hf
            refine lv_iconst (v := (0 : Int32)) hx hb dX1_aSeason_88 (by decide) ?_
            refine lv_iadd hx hb dX1_aSeason_89 ?_
            obtain ⟨v90, ev90, hf⟩ := obd hf
            refine nmI ev90 ?_
            refine lv_istore_n (lv' := [(3, .int v90), (1, .ref (wA o k1)), (4, .int w65.2.2)]) hx hb dX1_aSeason_90 rfl hl (by decide) rfl (fun ls hl => ?_)
            obtain ⟨v91, ev91, hf⟩ := obd hf
            refine lv_iinc (v := v91) (lv' := [(4, .int v91), (3, .int v90), (1, .ref (wA o k1))]) hx hb dX1_aSeason_91 hl (k := 2) rfl (iiE ev91 (by decide)) (by decide) rfl (fun ls hl => ?_)
            refine lv_goto (tgt := 65) hx hb dX1_aSeason_94 (by decide) ?_
            exact hk _ (Option.some.inj hf).symm H locs ls hI (lv_sub hl [2, 1, 0] rfl)
          · replace hf := ineg hc hf
            refine lv_iconst (v := (1 : Int32)) hx hb dX1_aSeason_84 (by decide) ?_
            refine lv_goto (tgt := 89) hx hb dX1_aSeason_85 (by decide) ?_
            refine lv_iadd hx hb dX1_aSeason_89 ?_
            obtain ⟨v90_13, ev90_13, hf⟩ := obd hf
            refine nmI ev90_13 ?_
            refine lv_istore_n (lv' := [(3, .int v90_13), (1, .ref (wA o k1)), (4, .int w65.2.2)]) hx hb dX1_aSeason_90 rfl hl (by decide) rfl (fun ls hl => ?_)
            obtain ⟨v91_14, ev91_14, hf⟩ := obd hf
            refine lv_iinc (v := v91_14) (lv' := [(4, .int v91_14), (3, .int v90_13), (1, .ref (wA o k1))]) hx hb dX1_aSeason_91 hl (k := 2) rfl (iiE ev91_14 (by decide)) (by decide) rfl (fun ls hl => ?_)
            refine lv_goto (tgt := 65) hx hb dX1_aSeason_94 (by decide) ?_
            exact hk _ (Option.some.inj hf).symm H locs ls hI (lv_sub hl [2, 1, 0] rfl)
      · skip
        intro H locs ls hI hl
        refine lv_aload_n hx hb dX1_aSeason_97 rfl (lv_at hl 0 rfl) ?_
        refine lv_sipush (v := (9999 : Int32)) hx hb dX1_aSeason_98 (by decide) ?_
        refine lv_aload_n hx hb dX1_aSeason_101 rfl (lv_at hl 0 rfl) ?_
        refine ggetN hx hb hts in_X2 hown hE.1.1 (hI.1.w k1 hk1 0 rfl) rfl 4 (by decide) (hE.1.2.2.f 6 rfl) rfl dX1_aSeason_102 ?_
        refine lv_iconst (v := (1 : Int32)) hx hb dX1_aSeason_105 (by decide) ?_
        refine lv_iadd hx hb dX1_aSeason_106 ?_
        refine va_mmin hx hb (hml.trans hl.1.symm) hown (hts _ q681) (hts _ q682) (hts _ q150) (hts _ q683) (Nat.le_of_ble_eq_true rfl) (Nat.le_of_ble_eq_true rfl) (Nat.le_of_ble_eq_true rfl) (Nat.le_of_ble_eq_true rfl) dX1_aSeason_107 ?_
        obtain ⟨t110, et110, hf⟩ := obd hf
        refine gputN hx hb hts in_X2 tyX2 tyX2_ok nmX2 hown hE.1.1 (hI.1.w k1 hk1 0 rfl) rfl 4 (by decide) (hE.1.2.2.f 6 rfl) rfl rfl rfl (Nat.le_of_ble_eq_true rfl) dX1_aSeason_110 (fun H locs h1 h2 h3 h4 => ?_)
        have hI := hI.putW (k := k1) (P := 0) (w' := mup (cw e65.1 k1) 0 4 (if ((cw e65.1 k1 0 4) + (1 : Int32)) < (9999 : Int32) then ((cw e65.1 k1 0 4) + (1 : Int32)) else (9999 : Int32))) hk1 rfl rfl h1 h2 h3 h4
        rw [Option.some.inj et110] at hI
        refine lv_iload_n hx hb dX1_aSeason_113 rfl (lv_at hl 1 rfl) ?_
        have hf := Prod.mk.inj (Option.some.inj hf)
        rw [hf.1]
        exact hret H locs 114 ls (hf.2 ▸ hI) dX1_aSeason_114

theorem cwX2_draw_X1 {R : Room} {s : State} {args : Array Value} {fr lo : Nat} (hts : ∀ w ∈ lw_all, w.before args s = true) (hR : fr + 1 ≤ R.frames ∧ 8 + (2 + 11) + lo ≤ R.locals) : CallW R s args RX1 RX2 440 yX2_draw cX2_draw 2 (some .int) (ws_ yX2_draw cX2_draw 2 (some .int)) ({ frames := fr, cells := 0, slots := 0, locals := lo }) 0 0 1 :=
  cwV 1 hts (lw_V q1788 q1789 q1790 q134 q1791) rfl rfl rfl (by decide +kernel) hR
theorem cwX1_aSeason_X1 {R : Room} {s : State} {args : Array Value} {fr lo : Nat} (hts : ∀ w ∈ lw_all, w.before args s = true) (hR : fr + 1 ≤ R.frames ∧ 8 + (5 + 11) + lo ≤ R.locals) : CallW R s args RX1 RX1 444 yX1_aSeason cX1_aSeason 5 (some .int) (ws_ yX1_aSeason cX1_aSeason 5 (some .int)) ({ frames := fr, cells := 0, slots := 0, locals := lo }) 0 0 2 :=
  cwV 2 hts (lw_V q571 q573 qs1 q133 q574) rfl rfl rfl (by decide +kernel) hR
def X1_drawnSeason (Λ : Nat → Nat → (Nat → Int32) → Int32) (τ : Cs) (k1 : Nat) : Option (Int32 × Cs) :=
  (X2_draw (cw τ k1) (100 : Int32)).bind fun x5 =>
  (some (cwu τ k1 x5.2)).bind fun t5 =>
  if (cw t5 k1 0 6) ≤ x5.1 then
    (X1_aSeason Λ t5 k1 (0 : Int32)).bind fun x20 =>
    some (x20.1, x20.2)
  else
    (X1_aSeason Λ t5 k1 (1 : Int32)).bind fun x20_4 =>
    some (x20_4.1, x20_4.2)
set_option maxHeartbeats 4000000 in
theorem mX1_drawnSeason (Λ : Nat → Nat → (Nat → Int32) → Int32) (Λn : Nat → Int32) (τ : Cs) (k1 : Nat) (hk1 : k1 < 5) (r : Int32) (τ' : Cs) (hf : X1_drawnSeason Λ τ k1 = some (r, τ')) : CMi yX1_drawnSeason cX1_drawnSeason 2 (some .int) 64 3093 Λ Λn (fun o aK aF => [.ref o, .ref (wA o k1)]) r τ τ' := by
  refine CMi.of (by decide) (fun _ _ _ => Nat.le_of_ble_eq_true rfl) ?_
  intro p l e s m args below meth c D J o z aK aV G Ld aF Q ls hx hb hml hown hts hE hret hI hl
  obtain ⟨H, eH⟩ : ∃ H, H = s.heap := ⟨_, rfl⟩
  obtain ⟨locs, eL⟩ : ∃ L : List Loc, L = [] := ⟨_, rfl⟩
  rw [← eH, ← eL] at hI ⊢
  have hown : s.vm.findClass RX1 = some m.cls := hown
  have hl : lv_has ls 2 [(0, .ref o), (1, .ref (wA o k1))] := hl
  unfold X1_drawnSeason at hf
  refine lv_aload_n hx hb dX1_drawnSeason_0 rfl (lv_at hl 0 rfl) ?_
  refine lv_aload_n hx hb dX1_drawnSeason_1 rfl (lv_at hl 1 rfl) ?_
  refine lv_aload_n hx hb dX1_drawnSeason_2 rfl (lv_at hl 1 rfl) ?_
  refine lv_bipush (v := (100 : Int32)) hx hb dX1_drawnSeason_3 (by decide) ?_
  obtain ⟨x5, ex5, hf⟩ := obd hf
  obtain ⟨t5, et5, hf⟩ := obd hf
  refine cworldI (rest := [.ref (wA o k1), .ref o]) hx hb hts hown hE hI hml hl.1 (mX2_draw (cw τ k1) (100 : Int32) _ _ ex5) hk1 (cwX2_draw_X1 hts ⟨Nat.le_of_ble_eq_true rfl, Nat.le_of_ble_eq_true rfl⟩) et5 ⟨Nat.le_of_ble_eq_true rfl, Nat.le_of_ble_eq_true rfl⟩ rfl rfl (lv_room (Nat.le_of_ble_eq_true rfl)) dX1_drawnSeason_5 (fun H locs hI => ?_)
  refine lv_aload_n hx hb dX1_drawnSeason_8 rfl (lv_at hl 1 rfl) ?_
  refine ggetN hx hb hts in_X2 hown hE.1.1 (hI.1.w k1 hk1 0 rfl) rfl 6 (by decide) (hE.1.2.2.f 8 rfl) rfl dX1_drawnSeason_9 ?_
  refine lv_icmp_ge (tgt := 19) hx hb dX1_drawnSeason_12 (by decide) (fun hc => ?_) (fun hc => ?_)
  · replace hf := ipos hc hf
    refine lv_iconst (v := (0 : Int32)) hx hb dX1_drawnSeason_19 (by decide) ?_
    obtain ⟨x20, ex20, hf⟩ := obd hf
    refine ccallI (rest := []) hx hb hts hown hE hI hml hl.1 (mX1_aSeason Λ Λn t5 k1 (0 : Int32) hk1 _ _ ex20) (cwX1_aSeason_X1 hts ⟨Nat.le_of_ble_eq_true rfl, Nat.le_of_ble_eq_true rfl⟩) (hI.1.o 0 rfl) rfl rfl ⟨Nat.le_of_ble_eq_true rfl, Nat.le_of_ble_eq_true rfl⟩ rfl rfl (lv_room (Nat.le_of_ble_eq_true rfl)) dX1_drawnSeason_20 (fun H locs hI => ?_)
    have hf := Prod.mk.inj (Option.some.inj hf)
    rw [hf.1]
    exact hret H locs 23 ls (hf.2 ▸ hI) dX1_drawnSeason_23
  · replace hf := ineg hc hf
    refine lv_iconst (v := (1 : Int32)) hx hb dX1_drawnSeason_15 (by decide) ?_
    refine lv_goto (tgt := 20) hx hb dX1_drawnSeason_16 (by decide) ?_
    obtain ⟨x20_4, ex20_4, hf⟩ := obd hf
    refine ccallI (rest := []) hx hb hts hown hE hI hml hl.1 (mX1_aSeason Λ Λn t5 k1 (1 : Int32) hk1 _ _ ex20_4) (cwX1_aSeason_X1 hts ⟨Nat.le_of_ble_eq_true rfl, Nat.le_of_ble_eq_true rfl⟩) (hI.1.o 0 rfl) rfl rfl ⟨Nat.le_of_ble_eq_true rfl, Nat.le_of_ble_eq_true rfl⟩ rfl rfl (lv_room (Nat.le_of_ble_eq_true rfl)) dX1_drawnSeason_20 (fun H locs hI => ?_)
    have hf := Prod.mk.inj (Option.some.inj hf)
    rw [hf.1]
    exact hret H locs 23 ls (hf.2 ▸ hI) dX1_drawnSeason_23

def X1_worldAt_L14 (Λ : Nat → Nat → (Nat → Int32) → Int32) (c1 : Int32) (w14 : Cs × Int32) : Option ((Cs × Int32) ⊕ (Cs)) :=
  if c1 ≤ w14.2 then
    some (.inr w14.1)
  else
    (X1_aSeason Λ w14.1 3 (0 : Int32)).bind fun x25 =>
    (some (w14.2 + (1 : Int32))).bind fun v29 =>
    some (.inl (x25.2, v29))
def X1_worldAt (Λ : Nat → Nat → (Nat → Int32) → Int32) (τ : Cs) (a1 : Int32) : Option (Cs) :=
  (clk τ 3 0).bind fun t8 =>
  (loopO (X1_worldAt_L14 Λ a1) FU (t8, (0 : Int32))).bind fun e14 =>
  some e14
set_option maxHeartbeats 4000000 in
theorem mX1_worldAt (Λ : Nat → Nat → (Nat → Int32) → Int32) (Λn : Nat → Int32) (τ : Cs) (a1 : Int32) (τ' : Cs) (hf : X1_worldAt Λ τ a1 = some τ') : CMr yX1_worldAt cX1_worldAt 3 (some (.object "LateInks$World")) 64 3093 Λ Λn (fun o aK aF => [.ref o, .int a1]) (fun o => wA o 3) τ τ' := by
  refine CMr.of (by decide) (fun _ _ _ => Nat.le_of_ble_eq_true rfl) ?_
  intro p l e s m args below meth c D J o z aK aV G Ld aF Q ls hx hb hml hown hts hE hret hI hl
  obtain ⟨H, eH⟩ : ∃ H, H = s.heap := ⟨_, rfl⟩
  obtain ⟨locs, eL⟩ : ∃ L : List Loc, L = [] := ⟨_, rfl⟩
  rw [← eH, ← eL] at hI ⊢
  have hown : s.vm.findClass RX1 = some m.cls := hown
  have hl : lv_has ls 3 [(0, .ref o), (1, .int a1)] := hl
  unfold X1_worldAt at hf
  refine lv_aload_n hx hb dX1_worldAt_0 rfl (lv_at hl 0 rfl) ?_
  refine gget hx hb hts in_X1 hown hE.1.1 (hI.1.o 0 rfl) rfl 6 (by decide) q472 rfl dX1_worldAt_1 ?_
  refine lv_aload_n hx hb dX1_worldAt_4 rfl (lv_at hl 0 rfl) ?_
  refine gget hx hb hts in_X1 hown hE.1.1 (hI.1.o 0 rfl) rfl 0 (by decide) q463 rfl dX1_worldAt_5 ?_
  obtain ⟨t8, et8, hf⟩ := obd hf
  refine clikens (rest := []) hx hb hts hown hE hI hml hl.1 (by decide) (by decide) (by decide) et8 ⟨Nat.le_of_ble_eq_true rfl, Nat.le_of_ble_eq_true rfl⟩ ⟨Nat.le_of_ble_eq_true rfl, Nat.le_of_ble_eq_true rfl⟩ (lv_room (Nat.le_of_ble_eq_true rfl)) dX1_worldAt_8 (fun H locs hI => ?_)
  refine lv_pop hx hb dX1_worldAt_11 rfl ?_
  refine lv_iconst (v := (0 : Int32)) hx hb dX1_worldAt_12 (by decide) ?_
  refine lv_istore_n (lv' := [(2, .int (0 : Int32)), (0, .ref o), (1, .int a1)]) hx hb dX1_worldAt_13 rfl hl (by decide) rfl (fun ls hl => ?_)
  obtain ⟨e14, he14, hf⟩ := obd hf
  have hs14 : ∀ (c1 : Int32), ∀ (w14 : Cs × Int32) (o14 : (Cs × Int32) ⊕ (Cs)), X1_worldAt_L14 Λ c1 w14 = some o14 → (∀ wx_, o14 = .inl wx_ → ∀ (H : Heap) (locs : List Loc) (ls : Array Slot), IC D J o Ld s H locs wx_.1 → lv_has ls 3 [(0, .ref o), (1, .int c1), (2, .int wx_.2)] → W p l e ({ frames := 64, cells := 0, slots := 0, locals := 3093 } : Room) s m args below meth c H locs 0 0 Q (F0 m 14 ls [])) → (∀ ex_, o14 = .inr ex_ → ∀ (H : Heap) (locs : List Loc) (ls : Array Slot), IC D J o Ld s H locs ex_ → lv_has ls 3 [(0, .ref o)] → W p l e ({ frames := 64, cells := 0, slots := 0, locals := 3093 } : Room) s m args below meth c H locs 0 0 Q (F0 m 35 ls [])) → ∀ (H : Heap) (locs : List Loc) (ls : Array Slot), IC D J o Ld s H locs w14.1 → lv_has ls 3 [(0, .ref o), (1, .int c1), (2, .int w14.2)] → W p l e ({ frames := 64, cells := 0, slots := 0, locals := 3093 } : Room) s m args below meth c H locs 0 0 Q (F0 m 14 ls []) := by
    intro c1 w14 o14 hf hk hq H locs ls hI hl
    unfold X1_worldAt_L14 at hf
    refine lv_iload_n hx hb dX1_worldAt_14 rfl (lv_at hl 2 rfl) ?_
    refine lv_iload_n hx hb dX1_worldAt_15 rfl (lv_at hl 1 rfl) ?_
    refine lv_icmp_ge (tgt := 35) hx hb dX1_worldAt_16 (by decide) (fun hc => ?_) (fun hc => ?_)
    · replace hf := ipos hc hf
      exact hq _ (Option.some.inj hf).symm H locs ls hI (lv_sub hl [0] rfl)
    · replace hf := ineg hc hf
      refine lv_aload_n hx hb dX1_worldAt_19 rfl (lv_at hl 0 rfl) ?_
      refine lv_aload_n hx hb dX1_worldAt_20 rfl (lv_at hl 0 rfl) ?_
      refine gget hx hb hts in_X1 hown hE.1.1 (hI.1.o 0 rfl) rfl 6 (by decide) q472 rfl dX1_worldAt_21 ?_
      refine lv_iconst (v := (0 : Int32)) hx hb dX1_worldAt_24 (by decide) ?_
      obtain ⟨x25, ex25, hf⟩ := obd hf
      refine ccallI (rest := []) hx hb hts hown hE hI hml hl.1 (mX1_aSeason Λ Λn w14.1 3 (0 : Int32) (by decide) _ _ ex25) (cwX1_aSeason_X1 hts ⟨Nat.le_of_ble_eq_true rfl, Nat.le_of_ble_eq_true rfl⟩) (hI.1.o 0 rfl) rfl rfl ⟨Nat.le_of_ble_eq_true rfl, Nat.le_of_ble_eq_true rfl⟩ rfl rfl (lv_room (Nat.le_of_ble_eq_true rfl)) dX1_worldAt_25 (fun H locs hI => ?_)
      refine lv_pop hx hb dX1_worldAt_28 rfl ?_
      obtain ⟨v29, ev29, hf⟩ := obd hf
      refine lv_iinc (v := v29) (lv' := [(2, .int v29), (0, .ref o), (1, .int c1)]) hx hb dX1_worldAt_29 hl (k := 2) rfl (iiE ev29 (by decide)) (by decide) rfl (fun ls hl => ?_)
      refine lv_goto (tgt := 14) hx hb dX1_worldAt_32 (by decide) ?_
      exact hk _ (Option.some.inj hf).symm H locs ls hI (lv_sub hl [1, 2, 0] rfl)
  refine loopO_W (Wat := fun w14 => ∀ (H : Heap) (locs : List Loc) (ls : Array Slot), IC D J o Ld s H locs w14.1 → lv_has ls 3 [(0, .ref o), (1, .int a1), (2, .int w14.2)] → W p l e ({ frames := 64, cells := 0, slots := 0, locals := 3093 } : Room) s m args below meth c H locs 0 0 Q (F0 m 14 ls [])) (Wex := fun ex_ => ∀ (H : Heap) (locs : List Loc) (ls : Array Slot), IC D J o Ld s H locs ex_ → lv_has ls 3 [(0, .ref o)] → W p l e ({ frames := 64, cells := 0, slots := 0, locals := 3093 } : Room) s m args below meth c H locs 0 0 Q (F0 m 35 ls [])) (hs14 a1) FU _ e14 he14 ?_ H locs ls hI (lv_sub hl [1, 2, 0] rfl)
  · skip
    intro H locs ls hI hl
    refine lv_aload_n hx hb dX1_worldAt_35 rfl (lv_at hl 0 rfl) ?_
    refine gget hx hb hts in_X1 hown hE.1.1 (hI.1.o 0 rfl) rfl 6 (by decide) q472 rfl dX1_worldAt_36 ?_
    exact hret H locs 39 ls ((Option.some.inj hf) ▸ hI) dX1_worldAt_39

def X1_whenOf_L29 (Λ : Nat → Nat → (Nat → Int32) → Int32) (c1 : Int32) (c2 : Int32) (w29 : Cs × Int32) : Option ((Cs × Int32) ⊕ ((Cs × Int32) ⊕ (Cs))) :=
  if (80 : Int32) < w29.2 then
    some (.inr (.inr w29.1))
  else
    (ld 8 (cw w29.1 3 25) c1).bind fun x43 =>
    if x43 = (-1 : Int32) then
      (X1_aSeason Λ w29.1 3 c2).bind fun x56 =>
      (some (w29.2 + (1 : Int32))).bind fun v60 =>
      some (.inl (x56.2, v60))
    else
      some (.inr (.inl (w29.1, w29.2)))
def X1_whenOf (Λ : Nat → Nat → (Nat → Int32) → Int32) (τ : Cs) (a1 : Int32) (a2 : Int32) : Option (Int32 × Cs) :=
  (ld 8 (cw τ 0 25) a1).bind fun x8 =>
  if x8 = (-1 : Int32) then
    (clk τ 3 0).bind fun t23 =>
    (loopO (X1_whenOf_L29 Λ a1 a2) FU (t23, (0 : Int32))).bind fun e29 =>
    Sum.elim (fun e29 =>
      some (e29.2, e29.1)) (fun e29 =>
      some ((-1 : Int32), e29)) e29
  else
    some ((0 : Int32), τ)
set_option maxHeartbeats 4000000 in
theorem mX1_whenOf (Λ : Nat → Nat → (Nat → Int32) → Int32) (Λn : Nat → Int32) (τ : Cs) (a1 : Int32) (a2 : Int32) (r : Int32) (τ' : Cs) (hf : X1_whenOf Λ τ a1 a2 = some (r, τ')) : CMi yX1_whenOf cX1_whenOf 4 (some .int) 64 3093 Λ Λn (fun o aK aF => [.ref o, .int a1, .int a2]) r τ τ' := by
  refine CMi.of (by decide) (fun _ _ _ => Nat.le_of_ble_eq_true rfl) ?_
  intro p l e s m args below meth c D J o z aK aV G Ld aF Q ls hx hb hml hown hts hE hret hI hl
  obtain ⟨H, eH⟩ : ∃ H, H = s.heap := ⟨_, rfl⟩
  obtain ⟨locs, eL⟩ : ∃ L : List Loc, L = [] := ⟨_, rfl⟩
  rw [← eH, ← eL] at hI ⊢
  have hown : s.vm.findClass RX1 = some m.cls := hown
  have hl : lv_has ls 4 [(0, .ref o), (1, .int a1), (2, .int a2)] := hl
  unfold X1_whenOf at hf
  refine lv_aload_n hx hb dX1_whenOf_0 rfl (lv_at hl 0 rfl) ?_
  refine gget hx hb hts in_X1 hown hE.1.1 (hI.1.o 0 rfl) rfl 0 (by decide) q463 rfl dX1_whenOf_1 ?_
  refine ggetN hx hb hts in_X2 hown hE.1.1 (hI.1.w 0 (by decide) 0 rfl) rfl 25 (by decide) (hE.1.2.2.f 32 rfl) rfl dX1_whenOf_4 ?_
  refine lv_iload_n hx hb dX1_whenOf_7 rfl (lv_at hl 1 rfl) ?_
  obtain ⟨x8, ex8, hf⟩ := obd hf
  refine gald hx hb hE.1.1 0 (hI.1.w 0 (by decide) 17 rfl) rfl ex8 dX1_whenOf_8 ?_
  refine lv_iconst (v := (-1 : Int32)) hx hb dX1_whenOf_9 (by decide) ?_
  refine lv_icmp_eq (tgt := 15) hx hb dX1_whenOf_10 (by decide) (fun hc => ?_) (fun hc => ?_)
  · replace hf := ipos hc hf
    refine lv_aload_n hx hb dX1_whenOf_15 rfl (lv_at hl 0 rfl) ?_
    refine gget hx hb hts in_X1 hown hE.1.1 (hI.1.o 0 rfl) rfl 6 (by decide) q472 rfl dX1_whenOf_16 ?_
    refine lv_aload_n hx hb dX1_whenOf_19 rfl (lv_at hl 0 rfl) ?_
    refine gget hx hb hts in_X1 hown hE.1.1 (hI.1.o 0 rfl) rfl 0 (by decide) q463 rfl dX1_whenOf_20 ?_
    obtain ⟨t23, et23, hf⟩ := obd hf
    refine clikens (rest := []) hx hb hts hown hE hI hml hl.1 (by decide) (by decide) (by decide) et23 ⟨Nat.le_of_ble_eq_true rfl, Nat.le_of_ble_eq_true rfl⟩ ⟨Nat.le_of_ble_eq_true rfl, Nat.le_of_ble_eq_true rfl⟩ (lv_room (Nat.le_of_ble_eq_true rfl)) dX1_whenOf_23 (fun H locs hI => ?_)
    refine lv_pop hx hb dX1_whenOf_26 rfl ?_
    refine lv_iconst (v := (0 : Int32)) hx hb dX1_whenOf_27 (by decide) ?_
    refine lv_istore_n (lv' := [(3, .int (0 : Int32)), (0, .ref o), (1, .int a1), (2, .int a2)]) hx hb dX1_whenOf_28 rfl hl (by decide) rfl (fun ls hl => ?_)
    obtain ⟨e29, he29, hf⟩ := obd hf
    have hs29 : ∀ (c1 : Int32) (c2 : Int32), ∀ (w29 : Cs × Int32) (o29 : (Cs × Int32) ⊕ ((Cs × Int32) ⊕ (Cs))), X1_whenOf_L29 Λ c1 c2 w29 = some o29 → (∀ wx_, o29 = .inl wx_ → ∀ (H : Heap) (locs : List Loc) (ls : Array Slot), IC D J o Ld s H locs wx_.1 → lv_has ls 4 [(0, .ref o), (1, .int c1), (2, .int c2), (3, .int wx_.2)] → W p l e ({ frames := 64, cells := 0, slots := 0, locals := 3093 } : Room) s m args below meth c H locs 0 0 Q (F0 m 29 ls [])) → (∀ ex_, o29 = .inr ex_ → Sum.elim (fun ex_ => ∀ (H : Heap) (locs : List Loc) (ls : Array Slot), IC D J o Ld s H locs ex_.1 → lv_has ls 4 [(3, .int ex_.2)] → W p l e ({ frames := 64, cells := 0, slots := 0, locals := 3093 } : Room) s m args below meth c H locs 0 0 Q (F0 m 48 ls [])) (fun ex_ => ∀ (H : Heap) (locs : List Loc) (ls : Array Slot), IC D J o Ld s H locs ex_ → lv_has ls 4 [] → W p l e ({ frames := 64, cells := 0, slots := 0, locals := 3093 } : Room) s m args below meth c H locs 0 0 Q (F0 m 66 ls [])) ex_) → ∀ (H : Heap) (locs : List Loc) (ls : Array Slot), IC D J o Ld s H locs w29.1 → lv_has ls 4 [(0, .ref o), (1, .int c1), (2, .int c2), (3, .int w29.2)] → W p l e ({ frames := 64, cells := 0, slots := 0, locals := 3093 } : Room) s m args below meth c H locs 0 0 Q (F0 m 29 ls []) := by
      intro c1 c2 w29 o29 hf hk hq H locs ls hI hl
      unfold X1_whenOf_L29 at hf
      refine lv_iload_n hx hb dX1_whenOf_29 rfl (lv_at hl 3 rfl) ?_
      refine lv_bipush (v := (80 : Int32)) hx hb dX1_whenOf_30 (by decide) ?_
      refine lv_icmp_gt (tgt := 66) hx hb dX1_whenOf_32 (by decide) (fun hc => ?_) (fun hc => ?_)
      · replace hf := ipos hc hf
        exact hq _ (Option.some.inj hf).symm H locs ls hI (lv_sub hl [] rfl)
      · replace hf := ineg hc hf
        refine lv_aload_n hx hb dX1_whenOf_35 rfl (lv_at hl 0 rfl) ?_
        refine gget hx hb hts in_X1 hown hE.1.1 (hI.1.o 0 rfl) rfl 6 (by decide) q472 rfl dX1_whenOf_36 ?_
        refine ggetN hx hb hts in_X2 hown hE.1.1 (hI.1.w 3 (by decide) 0 rfl) rfl 25 (by decide) (hE.1.2.2.f 32 rfl) rfl dX1_whenOf_39 ?_
        refine lv_iload_n hx hb dX1_whenOf_42 rfl (lv_at hl 1 rfl) ?_
        obtain ⟨x43, ex43, hf⟩ := obd hf
        refine gald hx hb hE.1.1 0 (hI.1.w 3 (by decide) 17 rfl) rfl ex43 dX1_whenOf_43 ?_
        refine lv_iconst (v := (-1 : Int32)) hx hb dX1_whenOf_44 (by decide) ?_
        refine lv_icmp_eq (tgt := 50) hx hb dX1_whenOf_45 (by decide) (fun hc => ?_) (fun hc => ?_)
        · replace hf := ipos hc hf
          refine lv_aload_n hx hb dX1_whenOf_50 rfl (lv_at hl 0 rfl) ?_
          refine lv_aload_n hx hb dX1_whenOf_51 rfl (lv_at hl 0 rfl) ?_
          refine gget hx hb hts in_X1 hown hE.1.1 (hI.1.o 0 rfl) rfl 6 (by decide) q472 rfl dX1_whenOf_52 ?_
          refine lv_iload_n hx hb dX1_whenOf_55 rfl (lv_at hl 2 rfl) ?_
          obtain ⟨x56, ex56, hf⟩ := obd hf
          refine ccallI (rest := []) hx hb hts hown hE hI hml hl.1 (mX1_aSeason Λ Λn w29.1 3 c2 (by decide) _ _ ex56) (cwX1_aSeason_X1 hts ⟨Nat.le_of_ble_eq_true rfl, Nat.le_of_ble_eq_true rfl⟩) (hI.1.o 0 rfl) rfl rfl ⟨Nat.le_of_ble_eq_true rfl, Nat.le_of_ble_eq_true rfl⟩ rfl rfl (lv_room (Nat.le_of_ble_eq_true rfl)) dX1_whenOf_56 (fun H locs hI => ?_)
          refine lv_pop hx hb dX1_whenOf_59 rfl ?_
          obtain ⟨v60, ev60, hf⟩ := obd hf
          refine lv_iinc (v := v60) (lv' := [(3, .int v60), (0, .ref o), (1, .int c1), (2, .int c2)]) hx hb dX1_whenOf_60 hl (k := 3) rfl (iiE ev60 (by decide)) (by decide) rfl (fun ls hl => ?_)
          refine lv_goto (tgt := 29) hx hb dX1_whenOf_63 (by decide) ?_
          exact hk _ (Option.some.inj hf).symm H locs ls hI (lv_sub hl [1, 2, 3, 0] rfl)
        · replace hf := ineg hc hf
          exact hq _ (Option.some.inj hf).symm H locs ls hI (lv_sub hl [3] rfl)
    refine loopO_W (Wat := fun w29 => ∀ (H : Heap) (locs : List Loc) (ls : Array Slot), IC D J o Ld s H locs w29.1 → lv_has ls 4 [(0, .ref o), (1, .int a1), (2, .int a2), (3, .int w29.2)] → W p l e ({ frames := 64, cells := 0, slots := 0, locals := 3093 } : Room) s m args below meth c H locs 0 0 Q (F0 m 29 ls [])) (Wex := fun ex_ => Sum.elim (fun ex_ => ∀ (H : Heap) (locs : List Loc) (ls : Array Slot), IC D J o Ld s H locs ex_.1 → lv_has ls 4 [(3, .int ex_.2)] → W p l e ({ frames := 64, cells := 0, slots := 0, locals := 3093 } : Room) s m args below meth c H locs 0 0 Q (F0 m 48 ls [])) (fun ex_ => ∀ (H : Heap) (locs : List Loc) (ls : Array Slot), IC D J o Ld s H locs ex_ → lv_has ls 4 [] → W p l e ({ frames := 64, cells := 0, slots := 0, locals := 3093 } : Room) s m args below meth c H locs 0 0 Q (F0 m 66 ls [])) ex_) (hs29 a1 a2) FU _ e29 he29 ?_ H locs ls hI (lv_sub hl [1, 2, 3, 0] rfl)
    · skip
      rcases e29 with e29 | e29
      · replace hf := sumL hf
        intro H locs ls hI hl
        refine lv_iload_n hx hb dX1_whenOf_48 rfl (lv_at hl 0 rfl) ?_
        have hf := Prod.mk.inj (Option.some.inj hf)
        rw [hf.1]
        exact hret H locs 49 ls (hf.2 ▸ hI) dX1_whenOf_49
      · replace hf := sumR hf
        intro H locs ls hI hl
        refine lv_iconst (v := (-1 : Int32)) hx hb dX1_whenOf_66 (by decide) ?_
        have hf := Prod.mk.inj (Option.some.inj hf)
        rw [hf.1]
        exact hret H locs 67 ls (hf.2 ▸ hI) dX1_whenOf_67
  · replace hf := ineg hc hf
    refine lv_iconst (v := (0 : Int32)) hx hb dX1_whenOf_13 (by decide) ?_
    have hf := Prod.mk.inj (Option.some.inj hf)
    rw [hf.1]
    exact hret H locs 14 ls (hf.2 ▸ hI) dX1_whenOf_14

theorem cwX1_whenOf_X1 {R : Room} {s : State} {args : Array Value} {fr lo : Nat} (hts : ∀ w ∈ lw_all, w.before args s = true) (hR : fr + 1 ≤ R.frames ∧ 8 + (4 + 11) + lo ≤ R.locals) : CallW R s args RX1 RX1 503 yX1_whenOf cX1_whenOf 4 (some .int) (ws_ yX1_whenOf cX1_whenOf 4 (some .int)) ({ frames := fr, cells := 0, slots := 0, locals := lo }) 0 0 2 :=
  cwV 2 hts (lw_V q714 q716 qs5 q133 q717) rfl rfl rfl (by decide +kernel) hR
def X1_priceOf (Λ : Nat → Nat → (Nat → Int32) → Int32) (τ : Cs) (a1 : Int32) : Option (Int32 × Cs) :=
  (ld 8 (cw τ 0 26) a1).bind fun x8 =>
  if x8 = (0 : Int32) then
    (X1_whenOf Λ τ a1 (0 : Int32)).bind fun x17 =>
    if x17.1 = (-1 : Int32) then
      some ((0 : Int32), x17.2)
    else
      (ld 8 (cw x17.2 0 19) a1).bind fun x39 =>
      some ((if (0 : Int32) < (x39 - x17.1) then (x39 - x17.1) else (0 : Int32)), x17.2)
  else
    some ((0 : Int32), τ)
set_option maxHeartbeats 4000000 in
theorem mX1_priceOf (Λ : Nat → Nat → (Nat → Int32) → Int32) (Λn : Nat → Int32) (τ : Cs) (a1 : Int32) (r : Int32) (τ' : Cs) (hf : X1_priceOf Λ τ a1 = some (r, τ')) : CMi yX1_priceOf cX1_priceOf 3 (some .int) 65 3116 Λ Λn (fun o aK aF => [.ref o, .int a1]) r τ τ' := by
  refine CMi.of (by decide) (fun _ _ _ => Nat.le_of_ble_eq_true rfl) ?_
  intro p l e s m args below meth c D J o z aK aV G Ld aF Q ls hx hb hml hown hts hE hret hI hl
  obtain ⟨H, eH⟩ : ∃ H, H = s.heap := ⟨_, rfl⟩
  obtain ⟨locs, eL⟩ : ∃ L : List Loc, L = [] := ⟨_, rfl⟩
  rw [← eH, ← eL] at hI ⊢
  have hown : s.vm.findClass RX1 = some m.cls := hown
  have hl : lv_has ls 3 [(0, .ref o), (1, .int a1)] := hl
  unfold X1_priceOf at hf
  refine lv_aload_n hx hb dX1_priceOf_0 rfl (lv_at hl 0 rfl) ?_
  refine gget hx hb hts in_X1 hown hE.1.1 (hI.1.o 0 rfl) rfl 0 (by decide) q463 rfl dX1_priceOf_1 ?_
  refine ggetN hx hb hts in_X2 hown hE.1.1 (hI.1.w 0 (by decide) 0 rfl) rfl 26 (by decide) (hE.1.2.2.f 33 rfl) rfl dX1_priceOf_4 ?_
  refine lv_iload_n hx hb dX1_priceOf_7 rfl (lv_at hl 1 rfl) ?_
  obtain ⟨x8, ex8, hf⟩ := obd hf
  refine gald hx hb hE.1.1 0 (hI.1.w 0 (by decide) 18 rfl) rfl ex8 dX1_priceOf_8 ?_
  refine lv_if_eq (tgt := 14) hx hb dX1_priceOf_9 (by decide) (fun hc => ?_) (fun hc => ?_)
  · replace hf := ipos hc hf
    refine lv_aload_n hx hb dX1_priceOf_14 rfl (lv_at hl 0 rfl) ?_
    refine lv_iload_n hx hb dX1_priceOf_15 rfl (lv_at hl 1 rfl) ?_
    refine lv_iconst (v := (0 : Int32)) hx hb dX1_priceOf_16 (by decide) ?_
    obtain ⟨x17, ex17, hf⟩ := obd hf
    refine ccallI (rest := []) hx hb hts hown hE hI hml hl.1 (mX1_whenOf Λ Λn τ a1 (0 : Int32) _ _ ex17) (cwX1_whenOf_X1 hts ⟨Nat.le_of_ble_eq_true rfl, Nat.le_of_ble_eq_true rfl⟩) (hI.1.o 0 rfl) rfl rfl ⟨Nat.le_of_ble_eq_true rfl, Nat.le_of_ble_eq_true rfl⟩ rfl rfl (lv_room (Nat.le_of_ble_eq_true rfl)) dX1_priceOf_17 (fun H locs hI => ?_)
    refine lv_istore_n (lv' := [(2, .int x17.1), (0, .ref o), (1, .int a1)]) hx hb dX1_priceOf_20 rfl hl (by decide) rfl (fun ls hl => ?_)
    refine lv_iload_n hx hb dX1_priceOf_21 rfl (lv_at hl 0 rfl) ?_
    refine lv_iconst (v := (-1 : Int32)) hx hb dX1_priceOf_22 (by decide) ?_
    refine lv_icmp_ne (tgt := 30) hx hb dX1_priceOf_23 (by decide) (fun hc => ?_) (fun hc => ?_)
    · replace hf := ineg hc hf
      refine lv_iconst (v := (0 : Int32)) hx hb dX1_priceOf_30 (by decide) ?_
      refine lv_aload_n hx hb dX1_priceOf_31 rfl (lv_at hl 1 rfl) ?_
      refine gget hx hb hts in_X1 hown hE.1.1 (hI.1.o 0 rfl) rfl 0 (by decide) q463 rfl dX1_priceOf_32 ?_
      refine ggetN hx hb hts in_X2 hown hE.1.1 (hI.1.w 0 (by decide) 0 rfl) rfl 19 (by decide) (hE.1.2.2.f 26 rfl) rfl dX1_priceOf_35 ?_
      refine lv_iload_n hx hb dX1_priceOf_38 rfl (lv_at hl 2 rfl) ?_
      obtain ⟨x39, ex39, hf⟩ := obd hf
      refine gald hx hb hE.1.1 0 (hI.1.w 0 (by decide) 11 rfl) rfl ex39 dX1_priceOf_39 ?_
      refine lv_iload_n hx hb dX1_priceOf_40 rfl (lv_at hl 0 rfl) ?_
      refine lv_isub hx hb dX1_priceOf_41 ?_
      refine va_mmax hx hb (hml.trans hl.1.symm) hown (hts _ q678) (hts _ q679) (hts _ q150) (hts _ q680) (Nat.le_of_ble_eq_true rfl) (Nat.le_of_ble_eq_true rfl) (Nat.le_of_ble_eq_true rfl) (Nat.le_of_ble_eq_true rfl) dX1_priceOf_42 ?_
      have hf := Prod.mk.inj (Option.some.inj hf)
      rw [hf.1]
      exact hret H locs 45 ls (hf.2 ▸ hI) dX1_priceOf_45
    · replace hf := ipos hc hf
      refine lv_iconst (v := (0 : Int32)) hx hb dX1_priceOf_26 (by decide) ?_
      refine lv_goto (tgt := 45) hx hb dX1_priceOf_27 (by decide) ?_
      have hf := Prod.mk.inj (Option.some.inj hf)
      rw [hf.1]
      exact hret H locs 45 ls (hf.2 ▸ hI) dX1_priceOf_45
  · replace hf := ineg hc hf
    refine lv_iconst (v := (0 : Int32)) hx hb dX1_priceOf_12 (by decide) ?_
    have hf := Prod.mk.inj (Option.some.inj hf)
    rw [hf.1]
    exact hret H locs 13 ls (hf.2 ▸ hI) dX1_priceOf_13

theorem cwX2_of_X1 {R : Room} {s : State} {args : Array Value} {fr lo : Nat} (hts : ∀ w ∈ lw_all, w.before args s = true) (hR : fr + 1 ≤ R.frames ∧ 8 + (4 + 11) + lo ≤ R.locals) : CallW R s args RX1 RX2 526 yX2_of cX2_of 4 (some .int) (ws_ yX2_of cX2_of 4 (some .int)) ({ frames := fr, cells := 0, slots := 0, locals := lo }) 0 0 1 :=
  cwV 1 hts (lw_V q530 q531 q532 q134 q533) rfl rfl rfl (by decide +kernel) hR
def X1_reads (τ : Cs) : Option (Int32) :=
  (X2_of (cw τ 0) (1 : Int32)).bind fun x5 =>
  some x5
set_option maxHeartbeats 4000000 in
theorem mX1_reads (Λ : Nat → Nat → (Nat → Int32) → Int32) (Λn : Nat → Int32) (τ : Cs) (r : Int32) (hf : X1_reads τ = some r) : CMi yX1_reads cX1_reads 1 (some .int) 2 63 Λ Λn (fun o aK aF => [.ref o]) r τ τ := by
  refine CMi.of (by decide) (fun _ _ _ => Nat.le_of_ble_eq_true rfl) ?_
  intro p l e s m args below meth c D J o z aK aV G Ld aF Q ls hx hb hml hown hts hE hret hI hl
  obtain ⟨H, eH⟩ : ∃ H, H = s.heap := ⟨_, rfl⟩
  obtain ⟨locs, eL⟩ : ∃ L : List Loc, L = [] := ⟨_, rfl⟩
  rw [← eH, ← eL] at hI ⊢
  have hown : s.vm.findClass RX1 = some m.cls := hown
  have hl : lv_has ls 1 [(0, .ref o)] := hl
  unfold X1_reads at hf
  refine lv_aload_n hx hb dX1_reads_0 rfl (lv_at hl 0 rfl) ?_
  refine gget hx hb hts in_X1 hown hE.1.1 (hI.1.o 0 rfl) rfl 0 (by decide) q463 rfl dX1_reads_1 ?_
  refine lv_iconst (v := (1 : Int32)) hx hb dX1_reads_4 (by decide) ?_
  obtain ⟨x5, ex5, hf⟩ := obd hf
  refine cworldI (rest := []) hx hb hts hown hE hI hml hl.1 (mX2_of (cw τ 0) (1 : Int32) _ ex5) (by decide) (cwX2_of_X1 hts ⟨Nat.le_of_ble_eq_true rfl, Nat.le_of_ble_eq_true rfl⟩) (congrArg some (cwu_self τ 0)) ⟨Nat.le_of_ble_eq_true rfl, Nat.le_of_ble_eq_true rfl⟩ rfl rfl (lv_room (Nat.le_of_ble_eq_true rfl)) dX1_reads_5 (fun H locs hI => ?_)
  have hf := Option.some.inj hf
  rw [hf]
  exact hret H locs 8 ls hI dX1_reads_8

def X1_blank (τ : Cs) : Option (Int32) :=
  (X2_of (cw τ 0) (0 : Int32)).bind fun x5 =>
  some x5
set_option maxHeartbeats 4000000 in
theorem mX1_blank (Λ : Nat → Nat → (Nat → Int32) → Int32) (Λn : Nat → Int32) (τ : Cs) (r : Int32) (hf : X1_blank τ = some r) : CMi yX1_blank cX1_blank 1 (some .int) 2 63 Λ Λn (fun o aK aF => [.ref o]) r τ τ := by
  refine CMi.of (by decide) (fun _ _ _ => Nat.le_of_ble_eq_true rfl) ?_
  intro p l e s m args below meth c D J o z aK aV G Ld aF Q ls hx hb hml hown hts hE hret hI hl
  obtain ⟨H, eH⟩ : ∃ H, H = s.heap := ⟨_, rfl⟩
  obtain ⟨locs, eL⟩ : ∃ L : List Loc, L = [] := ⟨_, rfl⟩
  rw [← eH, ← eL] at hI ⊢
  have hown : s.vm.findClass RX1 = some m.cls := hown
  have hl : lv_has ls 1 [(0, .ref o)] := hl
  unfold X1_blank at hf
  refine lv_aload_n hx hb dX1_blank_0 rfl (lv_at hl 0 rfl) ?_
  refine gget hx hb hts in_X1 hown hE.1.1 (hI.1.o 0 rfl) rfl 0 (by decide) q463 rfl dX1_blank_1 ?_
  refine lv_iconst (v := (0 : Int32)) hx hb dX1_blank_4 (by decide) ?_
  obtain ⟨x5, ex5, hf⟩ := obd hf
  refine cworldI (rest := []) hx hb hts hown hE hI hml hl.1 (mX2_of (cw τ 0) (0 : Int32) _ ex5) (by decide) (cwX2_of_X1 hts ⟨Nat.le_of_ble_eq_true rfl, Nat.le_of_ble_eq_true rfl⟩) (congrArg some (cwu_self τ 0)) ⟨Nat.le_of_ble_eq_true rfl, Nat.le_of_ble_eq_true rfl⟩ rfl rfl (lv_room (Nat.le_of_ble_eq_true rfl)) dX1_blank_5 (fun H locs hI => ?_)
  have hf := Option.some.inj hf
  rw [hf]
  exact hret H locs 8 ls hI dX1_blank_8

theorem cwX2_valid_X1 {R : Room} {s : State} {args : Array Value} {fr lo : Nat} (hts : ∀ w ∈ lw_all, w.before args s = true) (hR : fr + 1 ≤ R.frames ∧ 8 + (4 + 11) + lo ≤ R.locals) : CallW R s args RX1 RX2 552 yX2_valid cX2_valid 4 (some .int) (ws_ yX2_valid cX2_valid 4 (some .int)) ({ frames := fr, cells := 0, slots := 0, locals := lo }) 0 0 1 :=
  cwV 1 hts (lw_V q542 q543 q544 q134 q545) rfl rfl rfl (by decide +kernel) hR
def X1_valid (τ : Cs) : Option (Int32) :=
  (X2_of (cw τ 0) (1 : Int32)).bind fun x9 =>
  (X2_valid (cw τ 0) x9).bind fun x12 =>
  some x12
set_option maxHeartbeats 4000000 in
theorem mX1_valid (Λ : Nat → Nat → (Nat → Int32) → Int32) (Λn : Nat → Int32) (τ : Cs) (r : Int32) (hf : X1_valid τ = some r) : CMi yX1_valid cX1_valid 1 (some .int) 4 106 Λ Λn (fun o aK aF => [.ref o]) r τ τ := by
  refine CMi.of (by decide) (fun _ _ _ => Nat.le_of_ble_eq_true rfl) ?_
  intro p l e s m args below meth c D J o z aK aV G Ld aF Q ls hx hb hml hown hts hE hret hI hl
  obtain ⟨H, eH⟩ : ∃ H, H = s.heap := ⟨_, rfl⟩
  obtain ⟨locs, eL⟩ : ∃ L : List Loc, L = [] := ⟨_, rfl⟩
  rw [← eH, ← eL] at hI ⊢
  have hown : s.vm.findClass RX1 = some m.cls := hown
  have hl : lv_has ls 1 [(0, .ref o)] := hl
  unfold X1_valid at hf
  refine lv_aload_n hx hb dX1_valid_0 rfl (lv_at hl 0 rfl) ?_
  refine gget hx hb hts in_X1 hown hE.1.1 (hI.1.o 0 rfl) rfl 0 (by decide) q463 rfl dX1_valid_1 ?_
  refine lv_aload_n hx hb dX1_valid_4 rfl (lv_at hl 0 rfl) ?_
  refine gget hx hb hts in_X1 hown hE.1.1 (hI.1.o 0 rfl) rfl 0 (by decide) q463 rfl dX1_valid_5 ?_
  refine lv_iconst (v := (1 : Int32)) hx hb dX1_valid_8 (by decide) ?_
  obtain ⟨x9, ex9, hf⟩ := obd hf
  refine cworldI (rest := [.ref (wA o 0)]) hx hb hts hown hE hI hml hl.1 (mX2_of (cw τ 0) (1 : Int32) _ ex9) (by decide) (cwX2_of_X1 hts ⟨Nat.le_of_ble_eq_true rfl, Nat.le_of_ble_eq_true rfl⟩) (congrArg some (cwu_self τ 0)) ⟨Nat.le_of_ble_eq_true rfl, Nat.le_of_ble_eq_true rfl⟩ rfl rfl (lv_room (Nat.le_of_ble_eq_true rfl)) dX1_valid_9 (fun H locs hI => ?_)
  obtain ⟨x12, ex12, hf⟩ := obd hf
  refine cworldI (rest := []) hx hb hts hown hE hI hml hl.1 (mX2_valid (cw τ 0) x9 _ ex12) (by decide) (cwX2_valid_X1 hts ⟨Nat.le_of_ble_eq_true rfl, Nat.le_of_ble_eq_true rfl⟩) (congrArg some (cwu_self τ 0)) ⟨Nat.le_of_ble_eq_true rfl, Nat.le_of_ble_eq_true rfl⟩ rfl rfl (lv_room (Nat.le_of_ble_eq_true rfl)) dX1_valid_12 (fun H locs hI => ?_)
  have hf := Option.some.inj hf
  rw [hf]
  exact hret H locs 15 ls hI dX1_valid_15

theorem cwX1_worldAt_X1 {R : Room} {s : State} {args : Array Value} {fr lo : Nat} (hts : ∀ w ∈ lw_all, w.before args s = true) (hR : fr + 1 ≤ R.frames ∧ 8 + (3 + 11) + lo ≤ R.locals) : CallW R s args RX1 RX1 555 yX1_worldAt cX1_worldAt 3 (some (.object "LateInks$World")) (ws_ yX1_worldAt cX1_worldAt 3 (some (.object "LateInks$World"))) ({ frames := fr, cells := 0, slots := 0, locals := lo }) 0 0 1 :=
  cwV 1 hts (lw_V q557 q559 qs0 q133 q560) rfl rfl rfl (by decide +kernel) hR
theorem cwX2_brokeOnes_X1 {R : Room} {s : State} {args : Array Value} {fr lo : Nat} (hts : ∀ w ∈ lw_all, w.before args s = true) (hR : fr + 1 ≤ R.frames ∧ 8 + (3 + 11) + lo ≤ R.locals) : CallW R s args RX1 RX2 559 yX2_brokeOnes cX2_brokeOnes 3 (some .int) (ws_ yX2_brokeOnes cX2_brokeOnes 3 (some .int)) ({ frames := fr, cells := 0, slots := 0, locals := lo }) 0 0 0 :=
  cwV 0 hts (lw_V q702 q703 q704 q134 q705) rfl rfl rfl (by decide +kernel) hR
theorem csJ16_numberOfTrailingZeros_X1 {R : Room} {s : State} {args : Array Value} {fr lo : Nat} (hts : ∀ w ∈ lw_all, w.before args s = true) (hR : fr + 1 ≤ R.frames ∧ 8 + (2 + 11) + lo ≤ R.locals) : CallB R s args RX1 562 yJ16_numberOfTrailingZeros cJ16_numberOfTrailingZeros 2 (some .int) (ws_ yJ16_numberOfTrailingZeros cJ16_numberOfTrailingZeros 2 (some .int)) ({ frames := fr, cells := 0, slots := 0, locals := lo }) 0 0 1 ∧ (Cond.static yJ16_numberOfTrailingZeros).before args s = true :=
  va_cwS 1 hts (lw_S q706 q707 q158 q708) rfl rfl rfl (by decide +kernel) hR
def X1_ruin_L8 (Λ : Nat → Nat → (Nat → Int32) → Int32) (c1 : Int32) (w8 : Cs × Int32) : Option ((Cs × Int32) ⊕ ((Cs × Int32 × Int32) ⊕ (Cs))) :=
  if (80 : Int32) < w8.2 then
    some (.inr (.inr w8.1))
  else
    (X2_brokeOnes (cw w8.1 3)).bind fun x18 =>
    if x18 = (0 : Int32) then
      (X1_aSeason Λ w8.1 3 (0 : Int32)).bind fun x45 =>
      (some (w8.2 + (1 : Int32))).bind fun v49 =>
      some (.inl (x45.2, v49))
    else
      some (.inr (.inl (w8.1, w8.2, x18)))
def X1_ruin (Λ : Nat → Nat → (Nat → Int32) → Int32) (τ : Cs) (a1 : Int32) : Option (Int32 × Cs) :=
  (X1_worldAt Λ τ (0 : Int32)).bind fun t2 =>
  (loopO (X1_ruin_L8 Λ a1) FU (t2, (0 : Int32))).bind fun e8 =>
  Sum.elim (fun e8 =>
    if a1 = (0 : Int32) then
      some (e8.2.1, e8.1)
    else
      (J16_numberOfTrailingZeros e8.2.2).bind fun x31 =>
      some (x31, e8.1)) (fun e8 =>
    some ((-1 : Int32), e8)) e8
set_option maxHeartbeats 4000000 in
theorem mX1_ruin (Λ : Nat → Nat → (Nat → Int32) → Int32) (Λn : Nat → Int32) (τ : Cs) (a1 : Int32) (r : Int32) (τ' : Cs) (hf : X1_ruin Λ τ a1 = some (r, τ')) : CMi yX1_ruin cX1_ruin 4 (some .int) 65 3115 Λ Λn (fun o aK aF => [.ref o, .int a1]) r τ τ' := by
  refine CMi.of (by decide) (fun _ _ _ => Nat.le_of_ble_eq_true rfl) ?_
  intro p l e s m args below meth c D J o z aK aV G Ld aF Q ls hx hb hml hown hts hE hret hI hl
  obtain ⟨H, eH⟩ : ∃ H, H = s.heap := ⟨_, rfl⟩
  obtain ⟨locs, eL⟩ : ∃ L : List Loc, L = [] := ⟨_, rfl⟩
  rw [← eH, ← eL] at hI ⊢
  have hown : s.vm.findClass RX1 = some m.cls := hown
  have hl : lv_has ls 4 [(0, .ref o), (1, .int a1)] := hl
  unfold X1_ruin at hf
  refine lv_aload_n hx hb dX1_ruin_0 rfl (lv_at hl 0 rfl) ?_
  refine lv_iconst (v := (0 : Int32)) hx hb dX1_ruin_1 (by decide) ?_
  obtain ⟨t2, et2, hf⟩ := obd hf
  refine ccallR (rest := []) hx hb hts hown hE hI hml hl.1 (mX1_worldAt Λ Λn τ (0 : Int32) _ et2) (cwX1_worldAt_X1 hts ⟨Nat.le_of_ble_eq_true rfl, Nat.le_of_ble_eq_true rfl⟩) (hI.1.o 0 rfl) rfl rfl ⟨Nat.le_of_ble_eq_true rfl, Nat.le_of_ble_eq_true rfl⟩ rfl rfl (lv_room (Nat.le_of_ble_eq_true rfl)) dX1_ruin_2 (fun H locs hI => ?_)
  refine lv_pop hx hb dX1_ruin_5 rfl ?_
  refine lv_iconst (v := (0 : Int32)) hx hb dX1_ruin_6 (by decide) ?_
  refine lv_istore_n (lv' := [(2, .int (0 : Int32)), (0, .ref o), (1, .int a1)]) hx hb dX1_ruin_7 rfl hl (by decide) rfl (fun ls hl => ?_)
  obtain ⟨e8, he8, hf⟩ := obd hf
  have hs8 : ∀ (c1 : Int32), ∀ (w8 : Cs × Int32) (o8 : (Cs × Int32) ⊕ ((Cs × Int32 × Int32) ⊕ (Cs))), X1_ruin_L8 Λ c1 w8 = some o8 → (∀ wx_, o8 = .inl wx_ → ∀ (H : Heap) (locs : List Loc) (ls : Array Slot), IC D J o Ld s H locs wx_.1 → lv_has ls 4 [(0, .ref o), (1, .int c1), (2, .int wx_.2)] → W p l e ({ frames := 65, cells := 0, slots := 0, locals := 3115 } : Room) s m args below meth c H locs 0 0 Q (F0 m 8 ls [])) → (∀ ex_, o8 = .inr ex_ → Sum.elim (fun ex_ => ∀ (H : Heap) (locs : List Loc) (ls : Array Slot), IC D J o Ld s H locs ex_.1 → lv_has ls 4 [(1, .int c1), (2, .int ex_.2.1), (3, .int ex_.2.2)] → W p l e ({ frames := 65, cells := 0, slots := 0, locals := 3115 } : Room) s m args below meth c H locs 0 0 Q (F0 m 26 ls [])) (fun ex_ => ∀ (H : Heap) (locs : List Loc) (ls : Array Slot), IC D J o Ld s H locs ex_ → lv_has ls 4 [] → W p l e ({ frames := 65, cells := 0, slots := 0, locals := 3115 } : Room) s m args below meth c H locs 0 0 Q (F0 m 55 ls [])) ex_) → ∀ (H : Heap) (locs : List Loc) (ls : Array Slot), IC D J o Ld s H locs w8.1 → lv_has ls 4 [(0, .ref o), (1, .int c1), (2, .int w8.2)] → W p l e ({ frames := 65, cells := 0, slots := 0, locals := 3115 } : Room) s m args below meth c H locs 0 0 Q (F0 m 8 ls []) := by
    intro c1 w8 o8 hf hk hq H locs ls hI hl
    unfold X1_ruin_L8 at hf
    refine lv_iload_n hx hb dX1_ruin_8 rfl (lv_at hl 2 rfl) ?_
    refine lv_bipush (v := (80 : Int32)) hx hb dX1_ruin_9 (by decide) ?_
    refine lv_icmp_gt (tgt := 55) hx hb dX1_ruin_11 (by decide) (fun hc => ?_) (fun hc => ?_)
    · replace hf := ipos hc hf
      exact hq _ (Option.some.inj hf).symm H locs ls hI (lv_sub hl [] rfl)
    · replace hf := ineg hc hf
      refine lv_aload_n hx hb dX1_ruin_14 rfl (lv_at hl 0 rfl) ?_
      refine gget hx hb hts in_X1 hown hE.1.1 (hI.1.o 0 rfl) rfl 6 (by decide) q472 rfl dX1_ruin_15 ?_
      obtain ⟨x18, ex18, hf⟩ := obd hf
      refine cworldI (rest := []) hx hb hts hown hE hI hml hl.1 (mX2_brokeOnes (cw w8.1 3) _ ex18) (by decide) (cwX2_brokeOnes_X1 hts ⟨Nat.le_of_ble_eq_true rfl, Nat.le_of_ble_eq_true rfl⟩) (congrArg some (cwu_self w8.1 3)) ⟨Nat.le_of_ble_eq_true rfl, Nat.le_of_ble_eq_true rfl⟩ rfl rfl (lv_room (Nat.le_of_ble_eq_true rfl)) dX1_ruin_18 (fun H locs hI => ?_)
      refine lv_istore_n (lv' := [(3, .int x18), (0, .ref o), (1, .int c1), (2, .int w8.2)]) hx hb dX1_ruin_21 rfl hl (by decide) rfl (fun ls hl => ?_)
      refine lv_iload_n hx hb dX1_ruin_22 rfl (lv_at hl 0 rfl) ?_
      refine lv_if_eq (tgt := 39) hx hb dX1_ruin_23 (by decide) (fun hc => ?_) (fun hc => ?_)
      · replace hf := ipos hc hf
        refine lv_aload_n hx hb dX1_ruin_39 rfl (lv_at hl 1 rfl) ?_
        refine lv_aload_n hx hb dX1_ruin_40 rfl (lv_at hl 1 rfl) ?_
        refine gget hx hb hts in_X1 hown hE.1.1 (hI.1.o 0 rfl) rfl 6 (by decide) q472 rfl dX1_ruin_41 ?_
        refine lv_iconst (v := (0 : Int32)) hx hb dX1_ruin_44 (by decide) ?_
        obtain ⟨x45, ex45, hf⟩ := obd hf
        refine ccallI (rest := []) hx hb hts hown hE hI hml hl.1 (mX1_aSeason Λ Λn w8.1 3 (0 : Int32) (by decide) _ _ ex45) (cwX1_aSeason_X1 hts ⟨Nat.le_of_ble_eq_true rfl, Nat.le_of_ble_eq_true rfl⟩) (hI.1.o 0 rfl) rfl rfl ⟨Nat.le_of_ble_eq_true rfl, Nat.le_of_ble_eq_true rfl⟩ rfl rfl (lv_room (Nat.le_of_ble_eq_true rfl)) dX1_ruin_45 (fun H locs hI => ?_)
        refine lv_pop hx hb dX1_ruin_48 rfl ?_
        obtain ⟨v49, ev49, hf⟩ := obd hf
        refine lv_iinc (v := v49) (lv' := [(2, .int v49), (3, .int x18), (0, .ref o), (1, .int c1)]) hx hb dX1_ruin_49 hl (k := 3) rfl (iiE ev49 (by decide)) (by decide) rfl (fun ls hl => ?_)
        refine lv_goto (tgt := 8) hx hb dX1_ruin_52 (by decide) ?_
        exact hk _ (Option.some.inj hf).symm H locs ls hI (lv_sub hl [2, 3, 0] rfl)
      · replace hf := ineg hc hf
        exact hq _ (Option.some.inj hf).symm H locs ls hI (lv_sub hl [2, 3, 0] rfl)
  refine loopO_W (Wat := fun w8 => ∀ (H : Heap) (locs : List Loc) (ls : Array Slot), IC D J o Ld s H locs w8.1 → lv_has ls 4 [(0, .ref o), (1, .int a1), (2, .int w8.2)] → W p l e ({ frames := 65, cells := 0, slots := 0, locals := 3115 } : Room) s m args below meth c H locs 0 0 Q (F0 m 8 ls [])) (Wex := fun ex_ => Sum.elim (fun ex_ => ∀ (H : Heap) (locs : List Loc) (ls : Array Slot), IC D J o Ld s H locs ex_.1 → lv_has ls 4 [(1, .int a1), (2, .int ex_.2.1), (3, .int ex_.2.2)] → W p l e ({ frames := 65, cells := 0, slots := 0, locals := 3115 } : Room) s m args below meth c H locs 0 0 Q (F0 m 26 ls [])) (fun ex_ => ∀ (H : Heap) (locs : List Loc) (ls : Array Slot), IC D J o Ld s H locs ex_ → lv_has ls 4 [] → W p l e ({ frames := 65, cells := 0, slots := 0, locals := 3115 } : Room) s m args below meth c H locs 0 0 Q (F0 m 55 ls [])) ex_) (hs8 a1) FU _ e8 he8 ?_ H locs ls hI (lv_sub hl [1, 2, 0] rfl)
  · skip
    rcases e8 with e8 | e8
    · replace hf := sumL hf
      intro H locs ls hI hl
      refine lv_iload_n hx hb dX1_ruin_26 rfl (lv_at hl 0 rfl) ?_
      refine lv_if_eq (tgt := 37) hx hb dX1_ruin_27 (by decide) (fun hc => ?_) (fun hc => ?_)
      · replace hf := ipos hc hf
        refine lv_iload_n hx hb dX1_ruin_37 rfl (lv_at hl 1 rfl) ?_
        have hf := Prod.mk.inj (Option.some.inj hf)
        rw [hf.1]
        exact hret H locs 38 ls (hf.2 ▸ hI) dX1_ruin_38
      · replace hf := ineg hc hf
        refine lv_iload_n hx hb dX1_ruin_30 rfl (lv_at hl 2 rfl) ?_
        obtain ⟨x31, ex31, hf⟩ := obd hf
        refine tcallS (rest := []) hx hb hts hown hml hl.1 (mJ16_numberOfTrailingZeros e8.2.2 _ ex31) (csJ16_numberOfTrailingZeros_X1 hts ⟨Nat.le_of_ble_eq_true rfl, Nat.le_of_ble_eq_true rfl⟩) ⟨Nat.le_of_ble_eq_true rfl, Nat.le_of_ble_eq_true rfl⟩ rfl rfl (lv_room (Nat.le_of_ble_eq_true rfl)) dX1_ruin_31 ?_
        refine lv_goto (tgt := 38) hx hb dX1_ruin_34 (by decide) ?_
        have hf := Prod.mk.inj (Option.some.inj hf)
        rw [hf.1]
        exact hret H locs 38 ls (hf.2 ▸ hI) dX1_ruin_38
    · replace hf := sumR hf
      intro H locs ls hI hl
      refine lv_iconst (v := (-1 : Int32)) hx hb dX1_ruin_55 (by decide) ?_
      have hf := Prod.mk.inj (Option.some.inj hf)
      rw [hf.1]
      exact hret H locs 56 ls (hf.2 ▸ hI) dX1_ruin_56

def X1_chainOf_L4 (τ : Cs) (w4 : Int32 × Int32) : Option ((Int32 × Int32) ⊕ (Int32)) :=
  if w4.2 = (-1 : Int32) then
    some (.inr w4.1)
  else
    (some (w4.1 ||| ((1 : Int32) <<< (w4.2 &&& (31 : Int32))))).bind fun v14 =>
    (ld 8 (cw τ 0 21) w4.2).bind fun x23 =>
    some (.inl (v14, x23))
def X1_chainOf (τ : Cs) (a1 : Int32) : Option (Int32) :=
  (loopO (X1_chainOf_L4 τ) FU ((0 : Int32), a1)).bind fun e4 =>
  some e4
set_option maxHeartbeats 4000000 in
theorem mX1_chainOf (Λ : Nat → Nat → (Nat → Int32) → Int32) (Λn : Nat → Int32) (τ : Cs) (a1 : Int32) (r : Int32) (hf : X1_chainOf τ a1 = some r) : CMi yX1_chainOf cX1_chainOf 4 (some .int) 1 40 Λ Λn (fun o aK aF => [.ref o, .int a1]) r τ τ := by
  refine CMi.of (by decide) (fun _ _ _ => Nat.le_of_ble_eq_true rfl) ?_
  intro p l e s m args below meth c D J o z aK aV G Ld aF Q ls hx hb hml hown hts hE hret hI hl
  obtain ⟨H, eH⟩ : ∃ H, H = s.heap := ⟨_, rfl⟩
  obtain ⟨locs, eL⟩ : ∃ L : List Loc, L = [] := ⟨_, rfl⟩
  rw [← eH, ← eL] at hI ⊢
  have hown : s.vm.findClass RX1 = some m.cls := hown
  have hl : lv_has ls 4 [(0, .ref o), (1, .int a1)] := hl
  unfold X1_chainOf at hf
  refine lv_iconst (v := (0 : Int32)) hx hb dX1_chainOf_0 (by decide) ?_
  refine lv_istore_n (lv' := [(2, .int (0 : Int32)), (0, .ref o), (1, .int a1)]) hx hb dX1_chainOf_1 rfl hl (by decide) rfl (fun ls hl => ?_)
  refine lv_iload_n hx hb dX1_chainOf_2 rfl (lv_at hl 2 rfl) ?_
  refine lv_istore_n (lv' := [(3, .int a1), (2, .int (0 : Int32)), (0, .ref o), (1, .int a1)]) hx hb dX1_chainOf_3 rfl hl (by decide) rfl (fun ls hl => ?_)
  obtain ⟨e4, he4, hf⟩ := obd hf
  refine loopO_W (Wat := fun w4 => ∀ (H : Heap) (locs : List Loc) (ls : Array Slot), IC D J o Ld s H locs τ → lv_has ls 4 [(0, .ref o), (2, .int w4.1), (3, .int w4.2)] → W p l e ({ frames := 1, cells := 0, slots := 0, locals := 40 } : Room) s m args below meth c H locs 0 0 Q (F0 m 4 ls [])) (Wex := fun ex_ => ∀ (H : Heap) (locs : List Loc) (ls : Array Slot), IC D J o Ld s H locs τ → lv_has ls 4 [(2, .int ex_)] → W p l e ({ frames := 1, cells := 0, slots := 0, locals := 40 } : Room) s m args below meth c H locs 0 0 Q (F0 m 28 ls [])) (fun w4 o4 hf hk hq => ?_) FU _ e4 he4 ?_ H locs ls hI (lv_sub hl [2, 1, 0] rfl)
  · intro H locs ls hI hl
    unfold X1_chainOf_L4 at hf
    refine lv_iload_n hx hb dX1_chainOf_4 rfl (lv_at hl 2 rfl) ?_
    refine lv_iconst (v := (-1 : Int32)) hx hb dX1_chainOf_5 (by decide) ?_
    refine lv_icmp_eq (tgt := 28) hx hb dX1_chainOf_6 (by decide) (fun hc => ?_) (fun hc => ?_)
    · replace hf := ipos hc hf
      exact hq _ (Option.some.inj hf).symm H locs ls hI (lv_sub hl [1] rfl)
    · replace hf := ineg hc hf
      refine lv_iload_n hx hb dX1_chainOf_9 rfl (lv_at hl 1 rfl) ?_
      refine lv_iconst (v := (1 : Int32)) hx hb dX1_chainOf_10 (by decide) ?_
      refine lv_iload_n hx hb dX1_chainOf_11 rfl (lv_at hl 2 rfl) ?_
      refine lv_ishl hx hb dX1_chainOf_12 ?_
      refine lv_ior hx hb dX1_chainOf_13 ?_
      obtain ⟨v14, ev14, hf⟩ := obd hf
      refine nmI ev14 ?_
      refine lv_istore_n (lv' := [(2, .int v14), (0, .ref o), (3, .int w4.2)]) hx hb dX1_chainOf_14 rfl hl (by decide) rfl (fun ls hl => ?_)
      refine lv_aload_n hx hb dX1_chainOf_15 rfl (lv_at hl 1 rfl) ?_
      refine gget hx hb hts in_X1 hown hE.1.1 (hI.1.o 0 rfl) rfl 0 (by decide) q463 rfl dX1_chainOf_16 ?_
      refine ggetN hx hb hts in_X2 hown hE.1.1 (hI.1.w 0 (by decide) 0 rfl) rfl 21 (by decide) (hE.1.2.2.f 28 rfl) rfl dX1_chainOf_19 ?_
      refine lv_iload_n hx hb dX1_chainOf_22 rfl (lv_at hl 2 rfl) ?_
      obtain ⟨x23, ex23, hf⟩ := obd hf
      refine gald hx hb hE.1.1 0 (hI.1.w 0 (by decide) 13 rfl) rfl ex23 dX1_chainOf_23 ?_
      refine lv_istore_n (lv' := [(3, .int x23), (2, .int v14), (0, .ref o)]) hx hb dX1_chainOf_24 rfl hl (by decide) rfl (fun ls hl => ?_)
      refine lv_goto (tgt := 4) hx hb dX1_chainOf_25 (by decide) ?_
      exact hk _ (Option.some.inj hf).symm H locs ls hI (lv_sub hl [2, 1, 0] rfl)
  · skip
    intro H locs ls hI hl
    refine lv_iload_n hx hb dX1_chainOf_28 rfl (lv_at hl 0 rfl) ?_
    have hf := Option.some.inj hf
    rw [hf]
    exact hret H locs 29 ls hI dX1_chainOf_29

def X1_late_L6 (Λ : Nat → Nat → (Nat → Int32) → Int32) (w6 : Cs × Int32 × Int32 × Int32) : Option ((Cs × Int32 × Int32 × Int32) ⊕ (Cs × Int32)) :=
  if (cw w6.1 0 0 3) ≤ w6.2.2.2 then
    some (.inr (w6.1, w6.2.1))
  else
    (X1_whenOf Λ w6.1 w6.2.2.2 (0 : Int32)).bind fun x20 =>
    if w6.2.2.1 < x20.1 then
      (some (w6.2.2.2 + (1 : Int32))).bind fun v39 =>
      some (.inl (x20.2, w6.2.2.2, x20.1, v39))
    else
      (some (w6.2.2.2 + (1 : Int32))).bind fun v39_3 =>
      some (.inl (x20.2, w6.2.1, w6.2.2.1, v39_3))
def X1_late (Λ : Nat → Nat → (Nat → Int32) → Int32) (τ : Cs) : Option (Int32 × Cs) :=
  (loopO (X1_late_L6 Λ) FU (τ, (-1 : Int32), (-1 : Int32), (0 : Int32))).bind fun e6 =>
  some (e6.2, e6.1)
set_option maxHeartbeats 4000000 in
theorem mX1_late (Λ : Nat → Nat → (Nat → Int32) → Int32) (Λn : Nat → Int32) (τ : Cs) (r : Int32) (τ' : Cs) (hf : X1_late Λ τ = some (r, τ')) : CMi yX1_late cX1_late 5 (some .int) 65 3116 Λ Λn (fun o aK aF => [.ref o]) r τ τ' := by
  refine CMi.of (by decide) (fun _ _ _ => Nat.le_of_ble_eq_true rfl) ?_
  intro p l e s m args below meth c D J o z aK aV G Ld aF Q ls hx hb hml hown hts hE hret hI hl
  obtain ⟨H, eH⟩ : ∃ H, H = s.heap := ⟨_, rfl⟩
  obtain ⟨locs, eL⟩ : ∃ L : List Loc, L = [] := ⟨_, rfl⟩
  rw [← eH, ← eL] at hI ⊢
  have hown : s.vm.findClass RX1 = some m.cls := hown
  have hl : lv_has ls 5 [(0, .ref o)] := hl
  unfold X1_late at hf
  refine lv_iconst (v := (-1 : Int32)) hx hb dX1_late_0 (by decide) ?_
  refine lv_istore_n (lv' := [(1, .int (-1 : Int32)), (0, .ref o)]) hx hb dX1_late_1 rfl hl (by decide) rfl (fun ls hl => ?_)
  refine lv_iconst (v := (-1 : Int32)) hx hb dX1_late_2 (by decide) ?_
  refine lv_istore_n (lv' := [(2, .int (-1 : Int32)), (1, .int (-1 : Int32)), (0, .ref o)]) hx hb dX1_late_3 rfl hl (by decide) rfl (fun ls hl => ?_)
  refine lv_iconst (v := (0 : Int32)) hx hb dX1_late_4 (by decide) ?_
  refine lv_istore_n (lv' := [(3, .int (0 : Int32)), (2, .int (-1 : Int32)), (1, .int (-1 : Int32)), (0, .ref o)]) hx hb dX1_late_5 rfl hl (by decide) rfl (fun ls hl => ?_)
  obtain ⟨e6, he6, hf⟩ := obd hf
  refine loopO_W (Wat := fun w6 => ∀ (H : Heap) (locs : List Loc) (ls : Array Slot), IC D J o Ld s H locs w6.1 → lv_has ls 5 [(0, .ref o), (1, .int w6.2.1), (2, .int w6.2.2.1), (3, .int w6.2.2.2)] → W p l e ({ frames := 65, cells := 0, slots := 0, locals := 3116 } : Room) s m args below meth c H locs 0 0 Q (F0 m 6 ls [])) (Wex := fun ex_ => ∀ (H : Heap) (locs : List Loc) (ls : Array Slot), IC D J o Ld s H locs ex_.1 → lv_has ls 5 [(1, .int ex_.2)] → W p l e ({ frames := 65, cells := 0, slots := 0, locals := 3116 } : Room) s m args below meth c H locs 0 0 Q (F0 m 45 ls [])) (fun w6 o6 hf hk hq => ?_) FU _ e6 he6 ?_ H locs ls hI (lv_sub hl [3, 2, 1, 0] rfl)
  · intro H locs ls hI hl
    unfold X1_late_L6 at hf
    refine lv_iload_n hx hb dX1_late_6 rfl (lv_at hl 3 rfl) ?_
    refine lv_aload_n hx hb dX1_late_7 rfl (lv_at hl 0 rfl) ?_
    refine gget hx hb hts in_X1 hown hE.1.1 (hI.1.o 0 rfl) rfl 0 (by decide) q463 rfl dX1_late_8 ?_
    refine ggetN hx hb hts in_X2 hown hE.1.1 (hI.1.w 0 (by decide) 0 rfl) rfl 3 (by decide) (hE.1.2.2.f 5 rfl) rfl dX1_late_11 ?_
    refine lv_icmp_ge (tgt := 45) hx hb dX1_late_14 (by decide) (fun hc => ?_) (fun hc => ?_)
    · replace hf := ipos hc hf
      exact hq _ (Option.some.inj hf).symm H locs ls hI (lv_sub hl [1] rfl)
    · replace hf := ineg hc hf
      refine lv_aload_n hx hb dX1_late_17 rfl (lv_at hl 0 rfl) ?_
      refine lv_iload_n hx hb dX1_late_18 rfl (lv_at hl 3 rfl) ?_
      refine lv_iconst (v := (0 : Int32)) hx hb dX1_late_19 (by decide) ?_
      obtain ⟨x20, ex20, hf⟩ := obd hf
      refine ccallI (rest := []) hx hb hts hown hE hI hml hl.1 (mX1_whenOf Λ Λn w6.1 w6.2.2.2 (0 : Int32) _ _ ex20) (cwX1_whenOf_X1 hts ⟨Nat.le_of_ble_eq_true rfl, Nat.le_of_ble_eq_true rfl⟩) (hI.1.o 0 rfl) rfl rfl ⟨Nat.le_of_ble_eq_true rfl, Nat.le_of_ble_eq_true rfl⟩ rfl rfl (lv_room (Nat.le_of_ble_eq_true rfl)) dX1_late_20 (fun H locs hI => ?_)
      refine lv_istore (lv' := [(4, .int x20.1), (0, .ref o), (1, .int w6.2.1), (2, .int w6.2.2.1), (3, .int w6.2.2.2)]) hx hb dX1_late_23 hl (by decide) rfl (fun ls hl => ?_)
      refine lv_iload hx hb dX1_late_25 (lv_at hl 0 rfl) ?_
      refine lv_iload_n hx hb dX1_late_27 rfl (lv_at hl 3 rfl) ?_
      refine lv_icmp_gt (tgt := 34) hx hb dX1_late_28 (by decide) (fun hc => ?_) (fun hc => ?_)
      · replace hf := ipos hc hf
        refine lv_iload_n hx hb dX1_late_34 rfl (lv_at hl 4 rfl) ?_
        refine lv_istore_n (lv' := [(1, .int w6.2.2.2), (4, .int x20.1), (0, .ref o), (2, .int w6.2.2.1), (3, .int w6.2.2.2)]) hx hb dX1_late_35 rfl hl (by decide) rfl (fun ls hl => ?_)
        refine lv_iload hx hb dX1_late_36 (lv_at hl 1 rfl) ?_
        refine lv_istore_n (lv' := [(2, .int x20.1), (1, .int w6.2.2.2), (4, .int x20.1), (0, .ref o), (3, .int w6.2.2.2)]) hx hb dX1_late_38 rfl hl (by decide) rfl (fun ls hl => ?_)
        obtain ⟨v39, ev39, hf⟩ := obd hf
        refine lv_iinc (v := v39) (lv' := [(3, .int v39), (2, .int x20.1), (1, .int w6.2.2.2), (4, .int x20.1), (0, .ref o)]) hx hb dX1_late_39 hl (k := 4) rfl (iiE ev39 (by decide)) (by decide) rfl (fun ls hl => ?_)
        refine lv_goto (tgt := 6) hx hb dX1_late_42 (by decide) ?_
        exact hk _ (Option.some.inj hf).symm H locs ls hI (lv_sub hl [4, 2, 1, 0] rfl)
      · replace hf := ineg hc hf
        refine lv_goto (tgt := 39) hx hb dX1_late_31 (by decide) ?_
        obtain ⟨v39_3, ev39_3, hf⟩ := obd hf
        refine lv_iinc (v := v39_3) (lv' := [(3, .int v39_3), (4, .int x20.1), (0, .ref o), (1, .int w6.2.1), (2, .int w6.2.2.1)]) hx hb dX1_late_39 hl (k := 4) rfl (iiE ev39_3 (by decide)) (by decide) rfl (fun ls hl => ?_)
        refine lv_goto (tgt := 6) hx hb dX1_late_42 (by decide) ?_
        exact hk _ (Option.some.inj hf).symm H locs ls hI (lv_sub hl [2, 3, 4, 0] rfl)
  · skip
    intro H locs ls hI hl
    refine lv_iload_n hx hb dX1_late_45 rfl (lv_at hl 0 rfl) ?_
    have hf := Prod.mk.inj (Option.some.inj hf)
    rw [hf.1]
    exact hret H locs 46 ls (hf.2 ▸ hI) dX1_late_46

theorem csX1_has_X1 {R : Room} {s : State} {args : Array Value} {fr lo : Nat} (hts : ∀ w ∈ lw_all, w.before args s = true) (hR : fr + 1 ≤ R.frames ∧ 8 + (2 + 11) + lo ≤ R.locals) : CallB R s args RX1 573 yX1_has cX1_has 2 (some .boolean) (ws_ yX1_has cX1_has 2 (some .boolean)) ({ frames := fr, cells := 0, slots := 0, locals := lo }) 0 0 2 ∧ (Cond.static yX1_has).before args s = true :=
  va_cwS 2 hts (lw_S q736 q551 q133 q552) rfl rfl rfl (by decide +kernel) hR
theorem cwX1_costsOf_X1 {R : Room} {s : State} {args : Array Value} {fr lo : Nat} (hts : ∀ w ∈ lw_all, w.before args s = true) (hR : fr + 1 ≤ R.frames ∧ 8 + (3 + 11) + lo ≤ R.locals) : CallW R s args RX1 RX1 523 yX1_costsOf cX1_costsOf 3 (some .int) (ws_ yX1_costsOf cX1_costsOf 3 (some .int)) ({ frames := fr, cells := 0, slots := 0, locals := lo }) 0 0 2 :=
  cwV 2 hts (lw_V q1759 q1761 qs43 q133 q1762) rfl rfl rfl (by decide +kernel) hR
def X1_costsOfSet_L4 (Λ : Nat → Nat → (Nat → Int32) → Int32) (c1 : Int32) (w4 : Cs × Int32 × Int32) : Option ((Cs × Int32 × Int32) ⊕ (Cs × Int32)) :=
  if (cw w4.1 0 0 3) ≤ w4.2.2 then
    some (.inr (w4.1, w4.2.1))
  else
    (X1_has c1 w4.2.2).bind fun x18 =>
    if x18 = (0 : Int32) then
      (some (w4.2.1 + (0 : Int32))).bind fun v38 =>
      (some (w4.2.2 + (1 : Int32))).bind fun v39 =>
      some (.inl (w4.1, v38, v39))
    else
      (X1_costsOf Λ w4.1 0 w4.2.2).bind fun x30 =>
      (some (w4.2.1 + x30.1)).bind fun v38_5 =>
      (some (w4.2.2 + (1 : Int32))).bind fun v39_6 =>
      some (.inl (x30.2, v38_5, v39_6))
def X1_costsOfSet (Λ : Nat → Nat → (Nat → Int32) → Int32) (τ : Cs) (a1 : Int32) : Option (Int32 × Cs) :=
  (loopO (X1_costsOfSet_L4 Λ a1) FU (τ, (0 : Int32), (0 : Int32))).bind fun e4 =>
  some (e4.2, e4.1)
set_option maxHeartbeats 4000000 in
theorem mX1_costsOfSet (Λ : Nat → Nat → (Nat → Int32) → Int32) (Λn : Nat → Int32) (τ : Cs) (a1 : Int32) (r : Int32) (τ' : Cs) (hf : X1_costsOfSet Λ τ a1 = some (r, τ')) : CMi yX1_costsOfSet cX1_costsOfSet 4 (some .int) 62 3046 Λ Λn (fun o aK aF => [.ref o, .int a1]) r τ τ' := by
  refine CMi.of (by decide) (fun _ _ _ => Nat.le_of_ble_eq_true rfl) ?_
  intro p l e s m args below meth c D J o z aK aV G Ld aF Q ls hx hb hml hown hts hE hret hI hl
  obtain ⟨H, eH⟩ : ∃ H, H = s.heap := ⟨_, rfl⟩
  obtain ⟨locs, eL⟩ : ∃ L : List Loc, L = [] := ⟨_, rfl⟩
  rw [← eH, ← eL] at hI ⊢
  have hown : s.vm.findClass RX1 = some m.cls := hown
  have hl : lv_has ls 4 [(0, .ref o), (1, .int a1)] := hl
  unfold X1_costsOfSet at hf
  refine lv_iconst (v := (0 : Int32)) hx hb dX1_costsOfSet_0 (by decide) ?_
  refine lv_istore_n (lv' := [(2, .int (0 : Int32)), (0, .ref o), (1, .int a1)]) hx hb dX1_costsOfSet_1 rfl hl (by decide) rfl (fun ls hl => ?_)
  refine lv_iconst (v := (0 : Int32)) hx hb dX1_costsOfSet_2 (by decide) ?_
  refine lv_istore_n (lv' := [(3, .int (0 : Int32)), (2, .int (0 : Int32)), (0, .ref o), (1, .int a1)]) hx hb dX1_costsOfSet_3 rfl hl (by decide) rfl (fun ls hl => ?_)
  obtain ⟨e4, he4, hf⟩ := obd hf
  have hs4 : ∀ (c1 : Int32), ∀ (w4 : Cs × Int32 × Int32) (o4 : (Cs × Int32 × Int32) ⊕ (Cs × Int32)), X1_costsOfSet_L4 Λ c1 w4 = some o4 → (∀ wx_, o4 = .inl wx_ → ∀ (H : Heap) (locs : List Loc) (ls : Array Slot), IC D J o Ld s H locs wx_.1 → lv_has ls 4 [(0, .ref o), (1, .int c1), (2, .int wx_.2.1), (3, .int wx_.2.2)] → W p l e ({ frames := 62, cells := 0, slots := 0, locals := 3046 } : Room) s m args below meth c H locs 0 0 Q (F0 m 4 ls [])) → (∀ ex_, o4 = .inr ex_ → ∀ (H : Heap) (locs : List Loc) (ls : Array Slot), IC D J o Ld s H locs ex_.1 → lv_has ls 4 [(2, .int ex_.2)] → W p l e ({ frames := 62, cells := 0, slots := 0, locals := 3046 } : Room) s m args below meth c H locs 0 0 Q (F0 m 45 ls [])) → ∀ (H : Heap) (locs : List Loc) (ls : Array Slot), IC D J o Ld s H locs w4.1 → lv_has ls 4 [(0, .ref o), (1, .int c1), (2, .int w4.2.1), (3, .int w4.2.2)] → W p l e ({ frames := 62, cells := 0, slots := 0, locals := 3046 } : Room) s m args below meth c H locs 0 0 Q (F0 m 4 ls []) := by
    intro c1 w4 o4 hf hk hq H locs ls hI hl
    unfold X1_costsOfSet_L4 at hf
    refine lv_iload_n hx hb dX1_costsOfSet_4 rfl (lv_at hl 3 rfl) ?_
    refine lv_aload_n hx hb dX1_costsOfSet_5 rfl (lv_at hl 0 rfl) ?_
    refine gget hx hb hts in_X1 hown hE.1.1 (hI.1.o 0 rfl) rfl 0 (by decide) q463 rfl dX1_costsOfSet_6 ?_
    refine ggetN hx hb hts in_X2 hown hE.1.1 (hI.1.w 0 (by decide) 0 rfl) rfl 3 (by decide) (hE.1.2.2.f 5 rfl) rfl dX1_costsOfSet_9 ?_
    refine lv_icmp_ge (tgt := 45) hx hb dX1_costsOfSet_12 (by decide) (fun hc => ?_) (fun hc => ?_)
    · replace hf := ipos hc hf
      exact hq _ (Option.some.inj hf).symm H locs ls hI (lv_sub hl [2] rfl)
    · replace hf := ineg hc hf
      refine lv_iload_n hx hb dX1_costsOfSet_15 rfl (lv_at hl 2 rfl) ?_
      refine lv_iload_n hx hb dX1_costsOfSet_16 rfl (lv_at hl 1 rfl) ?_
      refine lv_iload_n hx hb dX1_costsOfSet_17 rfl (lv_at hl 3 rfl) ?_
      obtain ⟨x18, ex18, hf⟩ := obd hf
      refine tcallS (rest := [.int w4.2.1]) hx hb hts hown hml hl.1 (mX1_has c1 w4.2.2 _ ex18) (csX1_has_X1 hts ⟨Nat.le_of_ble_eq_true rfl, Nat.le_of_ble_eq_true rfl⟩) ⟨Nat.le_of_ble_eq_true rfl, Nat.le_of_ble_eq_true rfl⟩ rfl rfl (lv_room (Nat.le_of_ble_eq_true rfl)) dX1_costsOfSet_18 ?_
      refine lv_if_eq (tgt := 36) hx hb dX1_costsOfSet_21 (by decide) (fun hc => ?_) (fun hc => ?_)
      · replace hf := ipos hc hf
        refine lv_iconst (v := (0 : Int32)) hx hb dX1_costsOfSet_36 (by decide) ?_
        refine lv_iadd hx hb dX1_costsOfSet_37 ?_
        obtain ⟨v38, ev38, hf⟩ := obd hf
        refine nmI ev38 ?_
        refine lv_istore_n (lv' := [(2, .int v38), (0, .ref o), (1, .int c1), (3, .int w4.2.2)]) hx hb dX1_costsOfSet_38 rfl hl (by decide) rfl (fun ls hl => ?_)
        obtain ⟨v39, ev39, hf⟩ := obd hf
        refine lv_iinc (v := v39) (lv' := [(3, .int v39), (2, .int v38), (0, .ref o), (1, .int c1)]) hx hb dX1_costsOfSet_39 hl (k := 3) rfl (iiE ev39 (by decide)) (by decide) rfl (fun ls hl => ?_)
        refine lv_goto (tgt := 4) hx hb dX1_costsOfSet_42 (by decide) ?_
        exact hk _ (Option.some.inj hf).symm H locs ls hI (lv_sub hl [2, 3, 1, 0] rfl)
      · replace hf := ineg hc hf
        refine lv_aload_n hx hb dX1_costsOfSet_24 rfl (lv_at hl 0 rfl) ?_
        refine lv_aload_n hx hb dX1_costsOfSet_25 rfl (lv_at hl 0 rfl) ?_
        refine gget hx hb hts in_X1 hown hE.1.1 (hI.1.o 0 rfl) rfl 0 (by decide) q463 rfl dX1_costsOfSet_26 ?_
        refine lv_iload_n hx hb dX1_costsOfSet_29 rfl (lv_at hl 3 rfl) ?_
        obtain ⟨x30, ex30, hf⟩ := obd hf
        refine ccallI (rest := [.int w4.2.1]) hx hb hts hown hE hI hml hl.1 (mX1_costsOf Λ Λn w4.1 0 w4.2.2 (by decide) _ _ ex30) (cwX1_costsOf_X1 hts ⟨Nat.le_of_ble_eq_true rfl, Nat.le_of_ble_eq_true rfl⟩) (hI.1.o 0 rfl) rfl rfl ⟨Nat.le_of_ble_eq_true rfl, Nat.le_of_ble_eq_true rfl⟩ rfl rfl (lv_room (Nat.le_of_ble_eq_true rfl)) dX1_costsOfSet_30 (fun H locs hI => ?_)
        refine lv_goto (tgt := 37) hx hb dX1_costsOfSet_33 (by decide) ?_
        refine lv_iadd hx hb dX1_costsOfSet_37 ?_
        obtain ⟨v38_5, ev38_5, hf⟩ := obd hf
        refine nmI ev38_5 ?_
        refine lv_istore_n (lv' := [(2, .int v38_5), (0, .ref o), (1, .int c1), (3, .int w4.2.2)]) hx hb dX1_costsOfSet_38 rfl hl (by decide) rfl (fun ls hl => ?_)
        obtain ⟨v39_6, ev39_6, hf⟩ := obd hf
        refine lv_iinc (v := v39_6) (lv' := [(3, .int v39_6), (2, .int v38_5), (0, .ref o), (1, .int c1)]) hx hb dX1_costsOfSet_39 hl (k := 3) rfl (iiE ev39_6 (by decide)) (by decide) rfl (fun ls hl => ?_)
        refine lv_goto (tgt := 4) hx hb dX1_costsOfSet_42 (by decide) ?_
        exact hk _ (Option.some.inj hf).symm H locs ls hI (lv_sub hl [2, 3, 1, 0] rfl)
  refine loopO_W (Wat := fun w4 => ∀ (H : Heap) (locs : List Loc) (ls : Array Slot), IC D J o Ld s H locs w4.1 → lv_has ls 4 [(0, .ref o), (1, .int a1), (2, .int w4.2.1), (3, .int w4.2.2)] → W p l e ({ frames := 62, cells := 0, slots := 0, locals := 3046 } : Room) s m args below meth c H locs 0 0 Q (F0 m 4 ls [])) (Wex := fun ex_ => ∀ (H : Heap) (locs : List Loc) (ls : Array Slot), IC D J o Ld s H locs ex_.1 → lv_has ls 4 [(2, .int ex_.2)] → W p l e ({ frames := 62, cells := 0, slots := 0, locals := 3046 } : Room) s m args below meth c H locs 0 0 Q (F0 m 45 ls [])) (hs4 a1) FU _ e4 he4 ?_ H locs ls hI (lv_sub hl [2, 3, 1, 0] rfl)
  · skip
    intro H locs ls hI hl
    refine lv_iload_n hx hb dX1_costsOfSet_45 rfl (lv_at hl 0 rfl) ?_
    have hf := Prod.mk.inj (Option.some.inj hf)
    rw [hf.1]
    exact hret H locs 46 ls (hf.2 ▸ hI) dX1_costsOfSet_46

def X1_soaksUp (τ : Cs) (a1 : Int32) (a2 : Int32) : Option (Int32) :=
  (ld 6 (cw τ 0 13) a1).bind fun x8 =>
  (ld 4 (cw τ 0 9) a2).bind fun x17 =>
  some ((x8 * x17) / (10 : Int32))
set_option maxHeartbeats 4000000 in
theorem mX1_soaksUp (Λ : Nat → Nat → (Nat → Int32) → Int32) (Λn : Nat → Int32) (τ : Cs) (a1 : Int32) (a2 : Int32) (r : Int32) (hf : X1_soaksUp τ a1 a2 = some r) : CMi yX1_soaksUp cX1_soaksUp 3 (some .int) 1 40 Λ Λn (fun o aK aF => [.ref o, .int a1, .int a2]) r τ τ := by
  refine CMi.of (by decide) (fun _ _ _ => Nat.le_of_ble_eq_true rfl) ?_
  intro p l e s m args below meth c D J o z aK aV G Ld aF Q ls hx hb hml hown hts hE hret hI hl
  obtain ⟨H, eH⟩ : ∃ H, H = s.heap := ⟨_, rfl⟩
  obtain ⟨locs, eL⟩ : ∃ L : List Loc, L = [] := ⟨_, rfl⟩
  rw [← eH, ← eL] at hI ⊢
  have hown : s.vm.findClass RX1 = some m.cls := hown
  have hl : lv_has ls 3 [(0, .ref o), (1, .int a1), (2, .int a2)] := hl
  unfold X1_soaksUp at hf
  refine lv_aload_n hx hb dX1_soaksUp_0 rfl (lv_at hl 0 rfl) ?_
  refine gget hx hb hts in_X1 hown hE.1.1 (hI.1.o 0 rfl) rfl 0 (by decide) q463 rfl dX1_soaksUp_1 ?_
  refine ggetN hx hb hts in_X2 hown hE.1.1 (hI.1.w 0 (by decide) 0 rfl) rfl 13 (by decide) (hE.1.2.2.f 16 rfl) rfl dX1_soaksUp_4 ?_
  refine lv_iload_n hx hb dX1_soaksUp_7 rfl (lv_at hl 1 rfl) ?_
  obtain ⟨x8, ex8, hf⟩ := obd hf
  refine gald hx hb hE.1.1 0 (hI.1.w 0 (by decide) 5 rfl) rfl ex8 dX1_soaksUp_8 ?_
  refine lv_aload_n hx hb dX1_soaksUp_9 rfl (lv_at hl 0 rfl) ?_
  refine gget hx hb hts in_X1 hown hE.1.1 (hI.1.o 0 rfl) rfl 0 (by decide) q463 rfl dX1_soaksUp_10 ?_
  refine ggetN hx hb hts in_X2 hown hE.1.1 (hI.1.w 0 (by decide) 0 rfl) rfl 9 (by decide) (hE.1.2.2.f 11 rfl) rfl dX1_soaksUp_13 ?_
  refine lv_iload_n hx hb dX1_soaksUp_16 rfl (lv_at hl 2 rfl) ?_
  obtain ⟨x17, ex17, hf⟩ := obd hf
  refine gald hx hb hE.1.1 0 (hI.1.w 0 (by decide) 1 rfl) rfl ex17 dX1_soaksUp_17 ?_
  refine lv_imul hx hb dX1_soaksUp_18 ?_
  refine lv_bipush (v := (10 : Int32)) hx hb dX1_soaksUp_19 (by decide) ?_
  refine lv_idiv hx hb dX1_soaksUp_21 (by decide) ?_
  have hf := Option.some.inj hf
  rw [hf]
  exact hret H locs 22 ls hI dX1_soaksUp_22

theorem cwX1_soaksUp_X1 {R : Room} {s : State} {args : Array Value} {fr lo : Nat} (hts : ∀ w ∈ lw_all, w.before args s = true) (hR : fr + 1 ≤ R.frames ∧ 8 + (3 + 11) + lo ≤ R.locals) : CallW R s args RX1 RX1 583 yX1_soaksUp cX1_soaksUp 3 (some .int) (ws_ yX1_soaksUp cX1_soaksUp 3 (some .int)) ({ frames := fr, cells := 0, slots := 0, locals := lo }) 0 0 2 :=
  cwV 2 hts (lw_V q737 q739 qs8 q133 q740) rfl rfl rfl (by decide +kernel) hR
def X1_readFrom_L5 (τ : Cs) (c1 : Int32) (w5 : Int32 × Int32) : Option ((Int32 × Int32) ⊕ (Int32)) :=
  (ld 6 (cw τ 0 11) c1).bind fun x14 =>
  if x14 ≤ w5.1 then
    some (.inr w5.2)
  else
    (X1_soaksUp τ c1 (w5.2 - w5.2 / (4 : Int32) * (4 : Int32))).bind fun x26 =>
    (some (w5.1 + ((1 : Int32) + x26))).bind fun v31 =>
    (some (w5.2 + (1 : Int32))).bind fun v32 =>
    some (.inl (v31, v32))
def X1_readFrom (τ : Cs) (a1 : Int32) (a2 : Int32) : Option (Int32) :=
  (loopO (X1_readFrom_L5 τ a1) FU ((0 : Int32), a2)).bind fun e5 =>
  some e5
set_option maxHeartbeats 4000000 in
theorem mX1_readFrom (Λ : Nat → Nat → (Nat → Int32) → Int32) (Λn : Nat → Int32) (τ : Cs) (a1 : Int32) (a2 : Int32) (r : Int32) (hf : X1_readFrom τ a1 a2 = some r) : CMi yX1_readFrom cX1_readFrom 5 (some .int) 2 62 Λ Λn (fun o aK aF => [.ref o, .int a1, .int a2]) r τ τ := by
  refine CMi.of (by decide) (fun _ _ _ => Nat.le_of_ble_eq_true rfl) ?_
  intro p l e s m args below meth c D J o z aK aV G Ld aF Q ls hx hb hml hown hts hE hret hI hl
  obtain ⟨H, eH⟩ : ∃ H, H = s.heap := ⟨_, rfl⟩
  obtain ⟨locs, eL⟩ : ∃ L : List Loc, L = [] := ⟨_, rfl⟩
  rw [← eH, ← eL] at hI ⊢
  have hown : s.vm.findClass RX1 = some m.cls := hown
  have hl : lv_has ls 5 [(0, .ref o), (1, .int a1), (2, .int a2)] := hl
  unfold X1_readFrom at hf
  refine lv_iconst (v := (0 : Int32)) hx hb dX1_readFrom_0 (by decide) ?_
  refine lv_istore_n (lv' := [(3, .int (0 : Int32)), (0, .ref o), (1, .int a1), (2, .int a2)]) hx hb dX1_readFrom_1 rfl hl (by decide) rfl (fun ls hl => ?_)
  refine lv_iload_n hx hb dX1_readFrom_2 rfl (lv_at hl 3 rfl) ?_
  refine lv_istore (lv' := [(4, .int a2), (3, .int (0 : Int32)), (0, .ref o), (1, .int a1), (2, .int a2)]) hx hb dX1_readFrom_3 hl (by decide) rfl (fun ls hl => ?_)
  obtain ⟨e5, he5, hf⟩ := obd hf
  have hs5 : ∀ (c1 : Int32), ∀ (w5 : Int32 × Int32) (o5 : (Int32 × Int32) ⊕ (Int32)), X1_readFrom_L5 τ c1 w5 = some o5 → (∀ wx_, o5 = .inl wx_ → ∀ (H : Heap) (locs : List Loc) (ls : Array Slot), IC D J o Ld s H locs τ → lv_has ls 5 [(0, .ref o), (1, .int c1), (3, .int wx_.1), (4, .int wx_.2)] → W p l e ({ frames := 2, cells := 0, slots := 0, locals := 62 } : Room) s m args below meth c H locs 0 0 Q (F0 m 5 ls [])) → (∀ ex_, o5 = .inr ex_ → ∀ (H : Heap) (locs : List Loc) (ls : Array Slot), IC D J o Ld s H locs τ → lv_has ls 5 [(4, .int ex_)] → W p l e ({ frames := 2, cells := 0, slots := 0, locals := 62 } : Room) s m args below meth c H locs 0 0 Q (F0 m 38 ls [])) → ∀ (H : Heap) (locs : List Loc) (ls : Array Slot), IC D J o Ld s H locs τ → lv_has ls 5 [(0, .ref o), (1, .int c1), (3, .int w5.1), (4, .int w5.2)] → W p l e ({ frames := 2, cells := 0, slots := 0, locals := 62 } : Room) s m args below meth c H locs 0 0 Q (F0 m 5 ls []) := by
    intro c1 w5 o5 hf hk hq H locs ls hI hl
    unfold X1_readFrom_L5 at hf
    refine lv_iload_n hx hb dX1_readFrom_5 rfl (lv_at hl 2 rfl) ?_
    refine lv_aload_n hx hb dX1_readFrom_6 rfl (lv_at hl 0 rfl) ?_
    refine gget hx hb hts in_X1 hown hE.1.1 (hI.1.o 0 rfl) rfl 0 (by decide) q463 rfl dX1_readFrom_7 ?_
    refine ggetN hx hb hts in_X2 hown hE.1.1 (hI.1.w 0 (by decide) 0 rfl) rfl 11 (by decide) (hE.1.2.2.f 13 rfl) rfl dX1_readFrom_10 ?_
    refine lv_iload_n hx hb dX1_readFrom_13 rfl (lv_at hl 1 rfl) ?_
    obtain ⟨x14, ex14, hf⟩ := obd hf
    refine gald hx hb hE.1.1 0 (hI.1.w 0 (by decide) 3 rfl) rfl ex14 dX1_readFrom_14 ?_
    refine lv_icmp_ge (tgt := 38) hx hb dX1_readFrom_15 (by decide) (fun hc => ?_) (fun hc => ?_)
    · replace hf := ipos hc hf
      exact hq _ (Option.some.inj hf).symm H locs ls hI (lv_sub hl [3] rfl)
    · replace hf := ineg hc hf
      refine lv_iload_n hx hb dX1_readFrom_18 rfl (lv_at hl 2 rfl) ?_
      refine lv_iconst (v := (1 : Int32)) hx hb dX1_readFrom_19 (by decide) ?_
      refine lv_aload_n hx hb dX1_readFrom_20 rfl (lv_at hl 0 rfl) ?_
      refine lv_iload_n hx hb dX1_readFrom_21 rfl (lv_at hl 1 rfl) ?_
      refine lv_iload hx hb dX1_readFrom_22 (lv_at hl 3 rfl) ?_
      refine lv_iconst (v := (4 : Int32)) hx hb dX1_readFrom_24 (by decide) ?_
      refine lv_irem hx hb dX1_readFrom_25 (by decide) ?_
      obtain ⟨x26, ex26, hf⟩ := obd hf
      refine ccallI (rest := [.int (1 : Int32), .int w5.1]) hx hb hts hown hE hI hml hl.1 (mX1_soaksUp Λ Λn τ c1 (w5.2 - w5.2 / (4 : Int32) * (4 : Int32)) _ ex26) (cwX1_soaksUp_X1 hts ⟨Nat.le_of_ble_eq_true rfl, Nat.le_of_ble_eq_true rfl⟩) (hI.1.o 0 rfl) rfl rfl ⟨Nat.le_of_ble_eq_true rfl, Nat.le_of_ble_eq_true rfl⟩ rfl rfl (lv_room (Nat.le_of_ble_eq_true rfl)) dX1_readFrom_26 (fun H locs hI => ?_)
      refine lv_iadd hx hb dX1_readFrom_29 ?_
      refine lv_iadd hx hb dX1_readFrom_30 ?_
      obtain ⟨v31, ev31, hf⟩ := obd hf
      refine nmI ev31 ?_
      refine lv_istore_n (lv' := [(3, .int v31), (0, .ref o), (1, .int c1), (4, .int w5.2)]) hx hb dX1_readFrom_31 rfl hl (by decide) rfl (fun ls hl => ?_)
      obtain ⟨v32, ev32, hf⟩ := obd hf
      refine lv_iinc (v := v32) (lv' := [(4, .int v32), (3, .int v31), (0, .ref o), (1, .int c1)]) hx hb dX1_readFrom_32 hl (k := 3) rfl (iiE ev32 (by decide)) (by decide) rfl (fun ls hl => ?_)
      refine lv_goto (tgt := 5) hx hb dX1_readFrom_35 (by decide) ?_
      exact hk _ (Option.some.inj hf).symm H locs ls hI (lv_sub hl [2, 3, 1, 0] rfl)
  refine loopO_W (Wat := fun w5 => ∀ (H : Heap) (locs : List Loc) (ls : Array Slot), IC D J o Ld s H locs τ → lv_has ls 5 [(0, .ref o), (1, .int a1), (3, .int w5.1), (4, .int w5.2)] → W p l e ({ frames := 2, cells := 0, slots := 0, locals := 62 } : Room) s m args below meth c H locs 0 0 Q (F0 m 5 ls [])) (Wex := fun ex_ => ∀ (H : Heap) (locs : List Loc) (ls : Array Slot), IC D J o Ld s H locs τ → lv_has ls 5 [(4, .int ex_)] → W p l e ({ frames := 2, cells := 0, slots := 0, locals := 62 } : Room) s m args below meth c H locs 0 0 Q (F0 m 38 ls [])) (hs5 a1) FU _ e5 he5 ?_ H locs ls hI (lv_sub hl [2, 3, 1, 0] rfl)
  · skip
    intro H locs ls hI hl
    refine lv_iload hx hb dX1_readFrom_38 (lv_at hl 0 rfl) ?_
    have hf := Option.some.inj hf
    rw [hf]
    exact hret H locs 40 ls hI dX1_readFrom_40

def X1_tellApart_L26 (τ : Cs) (c1 : Int32) (c2 : Int32) (c3 : Int32) (w26 : Int32) : Option ((Int32) ⊕ ((Unit) ⊕ (Unit))) :=
  if (4 : Int32) ≤ w26 then
    some (.inr (.inr ()))
  else
    (X1_has c1 w26).bind fun x35 =>
    if x35 = (0 : Int32) then
      (some (w26 + (1 : Int32))).bind fun v60 =>
      some (.inl v60)
    else
      (X1_soaksUp τ c2 w26).bind fun x45 =>
      (X1_soaksUp τ c3 w26).bind fun x52 =>
      if x45 = x52 then
        (some (w26 + (1 : Int32))).bind fun v60_7 =>
        some (.inl v60_7)
      else
        some (.inr (.inl ()))
def X1_tellApart (τ : Cs) (a1 : Int32) (a2 : Int32) (a3 : Int32) : Option (Int32) :=
  (ld 6 (cw τ 0 13) a2).bind fun x8 =>
  (ld 6 (cw τ 0 13) a3).bind fun x17 =>
  if x8 = x17 then
    some (1 : Int32)
  else
    (loopO (X1_tellApart_L26 τ a1 a2 a3) FU (0 : Int32)).bind fun e26 =>
    Sum.elim (fun e26 =>
      some (1 : Int32)) (fun e26 =>
      some (0 : Int32)) e26
set_option maxHeartbeats 4000000 in
theorem mX1_tellApart (Λ : Nat → Nat → (Nat → Int32) → Int32) (Λn : Nat → Int32) (τ : Cs) (a1 : Int32) (a2 : Int32) (a3 : Int32) (r : Int32) (hf : X1_tellApart τ a1 a2 a3 = some r) : CMi yX1_tellApart cX1_tellApart 5 (some .boolean) 2 62 Λ Λn (fun o aK aF => [.ref o, .int a1, .int a2, .int a3]) r τ τ := by
  refine CMz.of (by decide) (fun _ _ _ => Nat.le_of_ble_eq_true rfl) ?_
  intro p l e s m args below meth c D J o z aK aV G Ld aF Q ls hx hb hml hown hts hE hret hI hl
  obtain ⟨H, eH⟩ : ∃ H, H = s.heap := ⟨_, rfl⟩
  obtain ⟨locs, eL⟩ : ∃ L : List Loc, L = [] := ⟨_, rfl⟩
  rw [← eH, ← eL] at hI ⊢
  have hown : s.vm.findClass RX1 = some m.cls := hown
  have hl : lv_has ls 5 [(0, .ref o), (1, .int a1), (2, .int a2), (3, .int a3)] := hl
  unfold X1_tellApart at hf
  refine lv_aload_n hx hb dX1_tellApart_0 rfl (lv_at hl 0 rfl) ?_
  refine gget hx hb hts in_X1 hown hE.1.1 (hI.1.o 0 rfl) rfl 0 (by decide) q463 rfl dX1_tellApart_1 ?_
  refine ggetN hx hb hts in_X2 hown hE.1.1 (hI.1.w 0 (by decide) 0 rfl) rfl 13 (by decide) (hE.1.2.2.f 16 rfl) rfl dX1_tellApart_4 ?_
  refine lv_iload_n hx hb dX1_tellApart_7 rfl (lv_at hl 2 rfl) ?_
  obtain ⟨x8, ex8, hf⟩ := obd hf
  refine gald hx hb hE.1.1 0 (hI.1.w 0 (by decide) 5 rfl) rfl ex8 dX1_tellApart_8 ?_
  refine lv_aload_n hx hb dX1_tellApart_9 rfl (lv_at hl 0 rfl) ?_
  refine gget hx hb hts in_X1 hown hE.1.1 (hI.1.o 0 rfl) rfl 0 (by decide) q463 rfl dX1_tellApart_10 ?_
  refine ggetN hx hb hts in_X2 hown hE.1.1 (hI.1.w 0 (by decide) 0 rfl) rfl 13 (by decide) (hE.1.2.2.f 16 rfl) rfl dX1_tellApart_13 ?_
  refine lv_iload_n hx hb dX1_tellApart_16 rfl (lv_at hl 3 rfl) ?_
  obtain ⟨x17, ex17, hf⟩ := obd hf
  refine gald hx hb hE.1.1 0 (hI.1.w 0 (by decide) 5 rfl) rfl ex17 dX1_tellApart_17 ?_
  refine lv_icmp_ne (tgt := 23) hx hb dX1_tellApart_18 (by decide) (fun hc => ?_) (fun hc => ?_)
  · replace hf := ineg hc hf
    refine lv_iconst (v := (0 : Int32)) hx hb dX1_tellApart_23 (by decide) ?_
    refine lv_istore (lv' := [(4, .int (0 : Int32)), (0, .ref o), (1, .int a1), (2, .int a2), (3, .int a3)]) hx hb dX1_tellApart_24 hl (by decide) rfl (fun ls hl => ?_)
    obtain ⟨e26, he26, hf⟩ := obd hf
    have hs26 : ∀ (c1 : Int32) (c2 : Int32) (c3 : Int32), ∀ (w26 : Int32) (o26 : (Int32) ⊕ ((Unit) ⊕ (Unit))), X1_tellApart_L26 τ c1 c2 c3 w26 = some o26 → (∀ wx_, o26 = .inl wx_ → ∀ (H : Heap) (locs : List Loc) (ls : Array Slot), IC D J o Ld s H locs τ → lv_has ls 5 [(0, .ref o), (1, .int c1), (2, .int c2), (3, .int c3), (4, .int wx_)] → W p l e ({ frames := 2, cells := 0, slots := 0, locals := 62 } : Room) s m args below meth c H locs 0 0 Q (F0 m 26 ls [])) → (∀ ex_, o26 = .inr ex_ → Sum.elim (fun ex_ => ∀ (H : Heap) (locs : List Loc) (ls : Array Slot), IC D J o Ld s H locs τ → lv_has ls 5 [] → W p l e ({ frames := 2, cells := 0, slots := 0, locals := 62 } : Room) s m args below meth c H locs 0 0 Q (F0 m 58 ls [])) (fun ex_ => ∀ (H : Heap) (locs : List Loc) (ls : Array Slot), IC D J o Ld s H locs τ → lv_has ls 5 [] → W p l e ({ frames := 2, cells := 0, slots := 0, locals := 62 } : Room) s m args below meth c H locs 0 0 Q (F0 m 66 ls [])) ex_) → ∀ (H : Heap) (locs : List Loc) (ls : Array Slot), IC D J o Ld s H locs τ → lv_has ls 5 [(0, .ref o), (1, .int c1), (2, .int c2), (3, .int c3), (4, .int w26)] → W p l e ({ frames := 2, cells := 0, slots := 0, locals := 62 } : Room) s m args below meth c H locs 0 0 Q (F0 m 26 ls []) := by
      intro c1 c2 c3 w26 o26 hf hk hq H locs ls hI hl
      unfold X1_tellApart_L26 at hf
      refine lv_iload hx hb dX1_tellApart_26 (lv_at hl 4 rfl) ?_
      refine lv_iconst (v := (4 : Int32)) hx hb dX1_tellApart_28 (by decide) ?_
      refine lv_icmp_ge (tgt := 66) hx hb dX1_tellApart_29 (by decide) (fun hc => ?_) (fun hc => ?_)
      · replace hf := ipos hc hf
        exact hq _ (Option.some.inj hf).symm H locs ls hI (lv_sub hl [] rfl)
      · replace hf := ineg hc hf
        refine lv_iload_n hx hb dX1_tellApart_32 rfl (lv_at hl 1 rfl) ?_
        refine lv_iload hx hb dX1_tellApart_33 (lv_at hl 4 rfl) ?_
        obtain ⟨x35, ex35, hf⟩ := obd hf
        refine tcallS (rest := []) hx hb hts hown hml hl.1 (mX1_has c1 w26 _ ex35) (csX1_has_X1 hts ⟨Nat.le_of_ble_eq_true rfl, Nat.le_of_ble_eq_true rfl⟩) ⟨Nat.le_of_ble_eq_true rfl, Nat.le_of_ble_eq_true rfl⟩ rfl rfl (lv_room (Nat.le_of_ble_eq_true rfl)) dX1_tellApart_35 ?_
        refine lv_if_eq (tgt := 60) hx hb dX1_tellApart_38 (by decide) (fun hc => ?_) (fun hc => ?_)
        · replace hf := ipos hc hf
          obtain ⟨v60, ev60, hf⟩ := obd hf
          refine lv_iinc (v := v60) (lv' := [(4, .int v60), (0, .ref o), (1, .int c1), (2, .int c2), (3, .int c3)]) hx hb dX1_tellApart_60 hl (k := 4) rfl (iiE ev60 (by decide)) (by decide) rfl (fun ls hl => ?_)
          refine lv_goto (tgt := 26) hx hb dX1_tellApart_63 (by decide) ?_
          exact hk _ (Option.some.inj hf).symm H locs ls hI (lv_sub hl [1, 2, 3, 4, 0] rfl)
        · replace hf := ineg hc hf
          refine lv_aload_n hx hb dX1_tellApart_41 rfl (lv_at hl 0 rfl) ?_
          refine lv_iload_n hx hb dX1_tellApart_42 rfl (lv_at hl 2 rfl) ?_
          refine lv_iload hx hb dX1_tellApart_43 (lv_at hl 4 rfl) ?_
          obtain ⟨x45, ex45, hf⟩ := obd hf
          refine ccallI (rest := []) hx hb hts hown hE hI hml hl.1 (mX1_soaksUp Λ Λn τ c2 w26 _ ex45) (cwX1_soaksUp_X1 hts ⟨Nat.le_of_ble_eq_true rfl, Nat.le_of_ble_eq_true rfl⟩) (hI.1.o 0 rfl) rfl rfl ⟨Nat.le_of_ble_eq_true rfl, Nat.le_of_ble_eq_true rfl⟩ rfl rfl (lv_room (Nat.le_of_ble_eq_true rfl)) dX1_tellApart_45 (fun H locs hI => ?_)
          refine lv_aload_n hx hb dX1_tellApart_48 rfl (lv_at hl 0 rfl) ?_
          refine lv_iload_n hx hb dX1_tellApart_49 rfl (lv_at hl 3 rfl) ?_
          refine lv_iload hx hb dX1_tellApart_50 (lv_at hl 4 rfl) ?_
          obtain ⟨x52, ex52, hf⟩ := obd hf
          refine ccallI (rest := [.int x45]) hx hb hts hown hE hI hml hl.1 (mX1_soaksUp Λ Λn τ c3 w26 _ ex52) (cwX1_soaksUp_X1 hts ⟨Nat.le_of_ble_eq_true rfl, Nat.le_of_ble_eq_true rfl⟩) (hI.1.o 0 rfl) rfl rfl ⟨Nat.le_of_ble_eq_true rfl, Nat.le_of_ble_eq_true rfl⟩ rfl rfl (lv_room (Nat.le_of_ble_eq_true rfl)) dX1_tellApart_52 (fun H locs hI => ?_)
          refine lv_icmp_eq (tgt := 60) hx hb dX1_tellApart_55 (by decide) (fun hc => ?_) (fun hc => ?_)
          · replace hf := ipos hc hf
            obtain ⟨v60_7, ev60_7, hf⟩ := obd hf
            refine lv_iinc (v := v60_7) (lv' := [(4, .int v60_7), (0, .ref o), (1, .int c1), (2, .int c2), (3, .int c3)]) hx hb dX1_tellApart_60 hl (k := 4) rfl (iiE ev60_7 (by decide)) (by decide) rfl (fun ls hl => ?_)
            refine lv_goto (tgt := 26) hx hb dX1_tellApart_63 (by decide) ?_
            exact hk _ (Option.some.inj hf).symm H locs ls hI (lv_sub hl [1, 2, 3, 4, 0] rfl)
          · replace hf := ineg hc hf
            exact hq _ (Option.some.inj hf).symm H locs ls hI (lv_sub hl [] rfl)
    refine loopO_W (Wat := fun w26 => ∀ (H : Heap) (locs : List Loc) (ls : Array Slot), IC D J o Ld s H locs τ → lv_has ls 5 [(0, .ref o), (1, .int a1), (2, .int a2), (3, .int a3), (4, .int w26)] → W p l e ({ frames := 2, cells := 0, slots := 0, locals := 62 } : Room) s m args below meth c H locs 0 0 Q (F0 m 26 ls [])) (Wex := fun ex_ => Sum.elim (fun ex_ => ∀ (H : Heap) (locs : List Loc) (ls : Array Slot), IC D J o Ld s H locs τ → lv_has ls 5 [] → W p l e ({ frames := 2, cells := 0, slots := 0, locals := 62 } : Room) s m args below meth c H locs 0 0 Q (F0 m 58 ls [])) (fun ex_ => ∀ (H : Heap) (locs : List Loc) (ls : Array Slot), IC D J o Ld s H locs τ → lv_has ls 5 [] → W p l e ({ frames := 2, cells := 0, slots := 0, locals := 62 } : Room) s m args below meth c H locs 0 0 Q (F0 m 66 ls [])) ex_) (hs26 a1 a2 a3) FU _ e26 he26 ?_ H locs ls hI (lv_sub hl [1, 2, 3, 4, 0] rfl)
    · skip
      rcases e26 with e26 | e26
      · replace hf := sumL hf
        intro H locs ls hI hl
        refine lv_iconst (v := (1 : Int32)) hx hb dX1_tellApart_58 (by decide) ?_
        have hf := Option.some.inj hf
        rw [hf]
        exact hret H locs 59 ls hI (hf ▸ (by decide)) dX1_tellApart_59
      · replace hf := sumR hf
        intro H locs ls hI hl
        refine lv_iconst (v := (0 : Int32)) hx hb dX1_tellApart_66 (by decide) ?_
        have hf := Option.some.inj hf
        rw [hf]
        exact hret H locs 67 ls hI (hf ▸ (by decide)) dX1_tellApart_67
  · replace hf := ipos hc hf
    refine lv_iconst (v := (1 : Int32)) hx hb dX1_tellApart_21 (by decide) ?_
    have hf := Option.some.inj hf
    rw [hf]
    exact hret H locs 22 ls hI (hf ▸ (by decide)) dX1_tellApart_22

theorem cwX1_tellApart_X1 {R : Room} {s : State} {args : Array Value} {fr lo : Nat} (hts : ∀ w ∈ lw_all, w.before args s = true) (hR : fr + 1 ≤ R.frames ∧ 8 + (5 + 11) + lo ≤ R.locals) : CallW R s args RX1 RX1 601 yX1_tellApart cX1_tellApart 5 (some .boolean) (ws_ yX1_tellApart cX1_tellApart 5 (some .boolean)) ({ frames := fr, cells := 0, slots := 0, locals := lo }) 0 0 3 :=
  cwV 3 hts (lw_V q732 q734 qs7 q133 q735) rfl rfl rfl (by decide +kernel) hR
def X1_allApart_L15 (τ : Cs) (c1 : Int32) (c2 : Int32) (w15 : Int32) : Option ((Int32) ⊕ ((Unit) ⊕ (Unit))) :=
  if c2 ≤ w15 then
    some (.inr (.inr ()))
  else
    (X1_tellApart τ c1 c2 w15).bind fun x24 =>
    if x24 = (0 : Int32) then
      some (.inr (.inl ()))
    else
      (some (w15 + (1 : Int32))).bind fun v32 =>
      some (.inl v32)
def X1_allApart_L2 (τ : Cs) (c1 : Int32) (w2 : Int32) : Option ((Int32) ⊕ ((Unit) ⊕ (Unit))) :=
  if (cw τ 0 0 2) ≤ w2 then
    some (.inr (.inr ()))
  else
    (loopO (X1_allApart_L15 τ c1 w2) FU (0 : Int32)).bind fun e15 =>
    Sum.elim (fun e15 =>
      some (.inr (.inl ()))) (fun e15 =>
      (some (w2 + (1 : Int32))).bind fun v38 =>
      some (.inl v38)) e15
def X1_allApart (τ : Cs) (a1 : Int32) : Option (Int32) :=
  (loopO (X1_allApart_L2 τ a1) FU (0 : Int32)).bind fun e2 =>
  Sum.elim (fun e2 =>
    some (0 : Int32)) (fun e2 =>
    some (1 : Int32)) e2
set_option maxHeartbeats 4000000 in
theorem mX1_allApart (Λ : Nat → Nat → (Nat → Int32) → Int32) (Λn : Nat → Int32) (τ : Cs) (a1 : Int32) (r : Int32) (hf : X1_allApart τ a1 = some r) : CMi yX1_allApart cX1_allApart 4 (some .boolean) 3 86 Λ Λn (fun o aK aF => [.ref o, .int a1]) r τ τ := by
  refine CMz.of (by decide) (fun _ _ _ => Nat.le_of_ble_eq_true rfl) ?_
  intro p l e s m args below meth c D J o z aK aV G Ld aF Q ls hx hb hml hown hts hE hret hI hl
  obtain ⟨H, eH⟩ : ∃ H, H = s.heap := ⟨_, rfl⟩
  obtain ⟨locs, eL⟩ : ∃ L : List Loc, L = [] := ⟨_, rfl⟩
  rw [← eH, ← eL] at hI ⊢
  have hown : s.vm.findClass RX1 = some m.cls := hown
  have hl : lv_has ls 4 [(0, .ref o), (1, .int a1)] := hl
  unfold X1_allApart at hf
  refine lv_iconst (v := (0 : Int32)) hx hb dX1_allApart_0 (by decide) ?_
  refine lv_istore_n (lv' := [(2, .int (0 : Int32)), (0, .ref o), (1, .int a1)]) hx hb dX1_allApart_1 rfl hl (by decide) rfl (fun ls hl => ?_)
  obtain ⟨e2, he2, hf⟩ := obd hf
  have hs2 : ∀ (c1 : Int32), ∀ (w2 : Int32) (o2 : (Int32) ⊕ ((Unit) ⊕ (Unit))), X1_allApart_L2 τ c1 w2 = some o2 → (∀ wx_, o2 = .inl wx_ → ∀ (H : Heap) (locs : List Loc) (ls : Array Slot), IC D J o Ld s H locs τ → lv_has ls 4 [(0, .ref o), (1, .int c1), (2, .int wx_)] → W p l e ({ frames := 3, cells := 0, slots := 0, locals := 86 } : Room) s m args below meth c H locs 0 0 Q (F0 m 2 ls [])) → (∀ ex_, o2 = .inr ex_ → Sum.elim (fun ex_ => ∀ (H : Heap) (locs : List Loc) (ls : Array Slot), IC D J o Ld s H locs τ → lv_has ls 4 [] → W p l e ({ frames := 3, cells := 0, slots := 0, locals := 86 } : Room) s m args below meth c H locs 0 0 Q (F0 m 30 ls [])) (fun ex_ => ∀ (H : Heap) (locs : List Loc) (ls : Array Slot), IC D J o Ld s H locs τ → lv_has ls 4 [] → W p l e ({ frames := 3, cells := 0, slots := 0, locals := 86 } : Room) s m args below meth c H locs 0 0 Q (F0 m 44 ls [])) ex_) → ∀ (H : Heap) (locs : List Loc) (ls : Array Slot), IC D J o Ld s H locs τ → lv_has ls 4 [(0, .ref o), (1, .int c1), (2, .int w2)] → W p l e ({ frames := 3, cells := 0, slots := 0, locals := 86 } : Room) s m args below meth c H locs 0 0 Q (F0 m 2 ls []) := by
    intro c1 w2 o2 hf hk hq H locs ls hI hl
    unfold X1_allApart_L2 at hf
    refine lv_iload_n hx hb dX1_allApart_2 rfl (lv_at hl 2 rfl) ?_
    refine lv_aload_n hx hb dX1_allApart_3 rfl (lv_at hl 0 rfl) ?_
    refine gget hx hb hts in_X1 hown hE.1.1 (hI.1.o 0 rfl) rfl 0 (by decide) q463 rfl dX1_allApart_4 ?_
    refine ggetN hx hb hts in_X2 hown hE.1.1 (hI.1.w 0 (by decide) 0 rfl) rfl 2 (by decide) (hE.1.2.2.f 3 rfl) rfl dX1_allApart_7 ?_
    refine lv_icmp_ge (tgt := 44) hx hb dX1_allApart_10 (by decide) (fun hc => ?_) (fun hc => ?_)
    · replace hf := ipos hc hf
      exact hq _ (Option.some.inj hf).symm H locs ls hI (lv_sub hl [] rfl)
    · replace hf := ineg hc hf
      refine lv_iconst (v := (0 : Int32)) hx hb dX1_allApart_13 (by decide) ?_
      refine lv_istore_n (lv' := [(3, .int (0 : Int32)), (0, .ref o), (1, .int c1), (2, .int w2)]) hx hb dX1_allApart_14 rfl hl (by decide) rfl (fun ls hl => ?_)
      obtain ⟨e15, he15, hf⟩ := obd hf
      have hs15 : ∀ (c1 : Int32) (c2 : Int32), ∀ (w15 : Int32) (o15 : (Int32) ⊕ ((Unit) ⊕ (Unit))), X1_allApart_L15 τ c1 c2 w15 = some o15 → (∀ wx_, o15 = .inl wx_ → ∀ (H : Heap) (locs : List Loc) (ls : Array Slot), IC D J o Ld s H locs τ → lv_has ls 4 [(0, .ref o), (1, .int c1), (2, .int c2), (3, .int wx_)] → W p l e ({ frames := 3, cells := 0, slots := 0, locals := 86 } : Room) s m args below meth c H locs 0 0 Q (F0 m 15 ls [])) → (∀ ex_, o15 = .inr ex_ → Sum.elim (fun ex_ => ∀ (H : Heap) (locs : List Loc) (ls : Array Slot), IC D J o Ld s H locs τ → lv_has ls 4 [] → W p l e ({ frames := 3, cells := 0, slots := 0, locals := 86 } : Room) s m args below meth c H locs 0 0 Q (F0 m 30 ls [])) (fun ex_ => ∀ (H : Heap) (locs : List Loc) (ls : Array Slot), IC D J o Ld s H locs τ → lv_has ls 4 [(0, .ref o), (1, .int c1), (2, .int c2)] → W p l e ({ frames := 3, cells := 0, slots := 0, locals := 86 } : Room) s m args below meth c H locs 0 0 Q (F0 m 38 ls [])) ex_) → ∀ (H : Heap) (locs : List Loc) (ls : Array Slot), IC D J o Ld s H locs τ → lv_has ls 4 [(0, .ref o), (1, .int c1), (2, .int c2), (3, .int w15)] → W p l e ({ frames := 3, cells := 0, slots := 0, locals := 86 } : Room) s m args below meth c H locs 0 0 Q (F0 m 15 ls []) := by
        intro c1 c2 w15 o15 hf hk hq H locs ls hI hl
        unfold X1_allApart_L15 at hf
        refine lv_iload_n hx hb dX1_allApart_15 rfl (lv_at hl 3 rfl) ?_
        refine lv_iload_n hx hb dX1_allApart_16 rfl (lv_at hl 2 rfl) ?_
        refine lv_icmp_ge (tgt := 38) hx hb dX1_allApart_17 (by decide) (fun hc => ?_) (fun hc => ?_)
        · replace hf := ipos hc hf
          exact hq _ (Option.some.inj hf).symm H locs ls hI (lv_sub hl [0, 1, 2] rfl)
        · replace hf := ineg hc hf
          refine lv_aload_n hx hb dX1_allApart_20 rfl (lv_at hl 0 rfl) ?_
          refine lv_iload_n hx hb dX1_allApart_21 rfl (lv_at hl 1 rfl) ?_
          refine lv_iload_n hx hb dX1_allApart_22 rfl (lv_at hl 2 rfl) ?_
          refine lv_iload_n hx hb dX1_allApart_23 rfl (lv_at hl 3 rfl) ?_
          obtain ⟨x24, ex24, hf⟩ := obd hf
          refine ccallI (rest := []) hx hb hts hown hE hI hml hl.1 (mX1_tellApart Λ Λn τ c1 c2 w15 _ ex24) (cwX1_tellApart_X1 hts ⟨Nat.le_of_ble_eq_true rfl, Nat.le_of_ble_eq_true rfl⟩) (hI.1.o 0 rfl) rfl rfl ⟨Nat.le_of_ble_eq_true rfl, Nat.le_of_ble_eq_true rfl⟩ rfl rfl (lv_room (Nat.le_of_ble_eq_true rfl)) dX1_allApart_24 (fun H locs hI => ?_)
          refine lv_if_ne (tgt := 32) hx hb dX1_allApart_27 (by decide) (fun hc => ?_) (fun hc => ?_)
          · replace hf := ineg hc hf
            obtain ⟨v32, ev32, hf⟩ := obd hf
            refine lv_iinc (v := v32) (lv' := [(3, .int v32), (0, .ref o), (1, .int c1), (2, .int c2)]) hx hb dX1_allApart_32 hl (k := 3) rfl (iiE ev32 (by decide)) (by decide) rfl (fun ls hl => ?_)
            refine lv_goto (tgt := 15) hx hb dX1_allApart_35 (by decide) ?_
            exact hk _ (Option.some.inj hf).symm H locs ls hI (lv_sub hl [1, 2, 3, 0] rfl)
          · replace hf := ipos hc hf
            exact hq _ (Option.some.inj hf).symm H locs ls hI (lv_sub hl [] rfl)
      refine loopO_W (Wat := fun w15 => ∀ (H : Heap) (locs : List Loc) (ls : Array Slot), IC D J o Ld s H locs τ → lv_has ls 4 [(0, .ref o), (1, .int c1), (2, .int w2), (3, .int w15)] → W p l e ({ frames := 3, cells := 0, slots := 0, locals := 86 } : Room) s m args below meth c H locs 0 0 Q (F0 m 15 ls [])) (Wex := fun ex_ => Sum.elim (fun ex_ => ∀ (H : Heap) (locs : List Loc) (ls : Array Slot), IC D J o Ld s H locs τ → lv_has ls 4 [] → W p l e ({ frames := 3, cells := 0, slots := 0, locals := 86 } : Room) s m args below meth c H locs 0 0 Q (F0 m 30 ls [])) (fun ex_ => ∀ (H : Heap) (locs : List Loc) (ls : Array Slot), IC D J o Ld s H locs τ → lv_has ls 4 [(0, .ref o), (1, .int c1), (2, .int w2)] → W p l e ({ frames := 3, cells := 0, slots := 0, locals := 86 } : Room) s m args below meth c H locs 0 0 Q (F0 m 38 ls [])) ex_) (hs15 c1 w2) FU _ e15 he15 ?_ H locs ls hI (lv_sub hl [1, 2, 3, 0] rfl)
      · skip
        rcases e15 with e15 | e15
        · replace hf := sumL hf
          intro H locs ls hI hl
          exact hq _ (Option.some.inj hf).symm H locs ls hI (lv_sub hl [] rfl)
        · replace hf := sumR hf
          intro H locs ls hI hl
          obtain ⟨v38, ev38, hf⟩ := obd hf
          refine lv_iinc (v := v38) (lv' := [(2, .int v38), (0, .ref o), (1, .int c1)]) hx hb dX1_allApart_38 hl (k := 2) rfl (iiE ev38 (by decide)) (by decide) rfl (fun ls hl => ?_)
          refine lv_goto (tgt := 2) hx hb dX1_allApart_41 (by decide) ?_
          exact hk _ (Option.some.inj hf).symm H locs ls hI (lv_sub hl [1, 2, 0] rfl)
  refine loopO_W (Wat := fun w2 => ∀ (H : Heap) (locs : List Loc) (ls : Array Slot), IC D J o Ld s H locs τ → lv_has ls 4 [(0, .ref o), (1, .int a1), (2, .int w2)] → W p l e ({ frames := 3, cells := 0, slots := 0, locals := 86 } : Room) s m args below meth c H locs 0 0 Q (F0 m 2 ls [])) (Wex := fun ex_ => Sum.elim (fun ex_ => ∀ (H : Heap) (locs : List Loc) (ls : Array Slot), IC D J o Ld s H locs τ → lv_has ls 4 [] → W p l e ({ frames := 3, cells := 0, slots := 0, locals := 86 } : Room) s m args below meth c H locs 0 0 Q (F0 m 30 ls [])) (fun ex_ => ∀ (H : Heap) (locs : List Loc) (ls : Array Slot), IC D J o Ld s H locs τ → lv_has ls 4 [] → W p l e ({ frames := 3, cells := 0, slots := 0, locals := 86 } : Room) s m args below meth c H locs 0 0 Q (F0 m 44 ls [])) ex_) (hs2 a1) FU _ e2 he2 ?_ H locs ls hI (lv_sub hl [1, 2, 0] rfl)
  · skip
    rcases e2 with e2 | e2
    · replace hf := sumL hf
      intro H locs ls hI hl
      refine lv_iconst (v := (0 : Int32)) hx hb dX1_allApart_30 (by decide) ?_
      have hf := Option.some.inj hf
      rw [hf]
      exact hret H locs 31 ls hI (hf ▸ (by decide)) dX1_allApart_31
    · replace hf := sumR hf
      intro H locs ls hI hl
      refine lv_iconst (v := (1 : Int32)) hx hb dX1_allApart_44 (by decide) ?_
      have hf := Option.some.inj hf
      rw [hf]
      exact hret H locs 45 ls hI (hf ▸ (by decide)) dX1_allApart_45

theorem csJ16_bitCount_X1 {R : Room} {s : State} {args : Array Value} {fr lo : Nat} (hts : ∀ w ∈ lw_all, w.before args s = true) (hR : fr + 1 ≤ R.frames ∧ 8 + (1 + 11) + lo ≤ R.locals) : CallB R s args RX1 604 yJ16_bitCount cJ16_bitCount 1 (some .int) (ws_ yJ16_bitCount cJ16_bitCount 1 (some .int)) ({ frames := fr, cells := 0, slots := 0, locals := lo }) 0 0 1 ∧ (Cond.static yJ16_bitCount).before args s = true :=
  va_cwS 1 hts (lw_S q722 q723 q158 q724) rfl rfl rfl (by decide +kernel) hR
theorem cwX1_allApart_X1 {R : Room} {s : State} {args : Array Value} {fr lo : Nat} (hts : ∀ w ∈ lw_all, w.before args s = true) (hR : fr + 1 ≤ R.frames ∧ 8 + (4 + 11) + lo ≤ R.locals) : CallW R s args RX1 RX1 607 yX1_allApart cX1_allApart 4 (some .boolean) (ws_ yX1_allApart cX1_allApart 4 (some .boolean)) ({ frames := fr, cells := 0, slots := 0, locals := lo }) 0 0 1 :=
  cwV 1 hts (lw_V q728 q730 qs6 q133 q731) rfl rfl rfl (by decide +kernel) hR
def X1_apart_J4_26 (τ : Cs) (x1 : Int32) (x2 : Int32) : Option ((Int32 × Int32) ⊕ (Int32)) :=
  (X1_allApart τ x2).bind fun x28 =>
  if x28 = (0 : Int32) then
    (some (x2 + (1 : Int32))).bind fun v36 =>
    some (.inl (x1, v36))
  else
    (some (x2 + (1 : Int32))).bind fun v36_3 =>
    some (.inl (x2, v36_3))
def X1_apart_L4 (τ : Cs) (w4 : Int32 × Int32) : Option ((Int32 × Int32) ⊕ (Int32)) :=
  if (16 : Int32) ≤ w4.2 then
    some (.inr w4.1)
  else
    if w4.1 = (-1 : Int32) then
      X1_apart_J4_26 τ w4.1 w4.2
    else
      (J16_bitCount w4.2).bind fun x16 =>
      (J16_bitCount w4.1).bind fun x20 =>
      if x20 ≤ x16 then
        (some (w4.2 + (1 : Int32))).bind fun v36_6 =>
        some (.inl (w4.1, v36_6))
      else
        X1_apart_J4_26 τ w4.1 w4.2
def X1_apart (τ : Cs) : Option (Int32) :=
  (loopO (X1_apart_L4 τ) FU ((-1 : Int32), (0 : Int32))).bind fun e4 =>
  some e4
set_option maxHeartbeats 4000000 in
theorem mX1_apart (Λ : Nat → Nat → (Nat → Int32) → Int32) (Λn : Nat → Int32) (τ : Cs) (r : Int32) (hf : X1_apart τ = some r) : CMi yX1_apart cX1_apart 3 (some .int) 4 109 Λ Λn (fun o aK aF => [.ref o]) r τ τ := by
  refine CMi.of (by decide) (fun _ _ _ => Nat.le_of_ble_eq_true rfl) ?_
  intro p l e s m args below meth c D J o z aK aV G Ld aF Q ls hx hb hml hown hts hE hret hI hl
  obtain ⟨H, eH⟩ : ∃ H, H = s.heap := ⟨_, rfl⟩
  obtain ⟨locs, eL⟩ : ∃ L : List Loc, L = [] := ⟨_, rfl⟩
  rw [← eH, ← eL] at hI ⊢
  have hown : s.vm.findClass RX1 = some m.cls := hown
  have hl : lv_has ls 3 [(0, .ref o)] := hl
  unfold X1_apart at hf
  refine lv_iconst (v := (-1 : Int32)) hx hb dX1_apart_0 (by decide) ?_
  refine lv_istore_n (lv' := [(1, .int (-1 : Int32)), (0, .ref o)]) hx hb dX1_apart_1 rfl hl (by decide) rfl (fun ls hl => ?_)
  refine lv_iconst (v := (0 : Int32)) hx hb dX1_apart_2 (by decide) ?_
  refine lv_istore_n (lv' := [(2, .int (0 : Int32)), (1, .int (-1 : Int32)), (0, .ref o)]) hx hb dX1_apart_3 rfl hl (by decide) rfl (fun ls hl => ?_)
  obtain ⟨e4, he4, hf⟩ := obd hf
  refine loopO_W (Wat := fun w4 => ∀ (H : Heap) (locs : List Loc) (ls : Array Slot), IC D J o Ld s H locs τ → lv_has ls 3 [(0, .ref o), (1, .int w4.1), (2, .int w4.2)] → W p l e ({ frames := 4, cells := 0, slots := 0, locals := 109 } : Room) s m args below meth c H locs 0 0 Q (F0 m 4 ls [])) (Wex := fun ex_ => ∀ (H : Heap) (locs : List Loc) (ls : Array Slot), IC D J o Ld s H locs τ → lv_has ls 3 [(1, .int ex_)] → W p l e ({ frames := 4, cells := 0, slots := 0, locals := 109 } : Room) s m args below meth c H locs 0 0 Q (F0 m 42 ls [])) (fun w4 o4 hf hk hq => ?_) FU _ e4 he4 ?_ H locs ls hI (lv_sub hl [2, 1, 0] rfl)
  · intro H locs ls hI hl
    unfold X1_apart_L4 at hf
    have hJ26 : ∀ (x1 : Int32) (x2 : Int32) (H : Heap) (locs : List Loc) (ls : Array Slot), X1_apart_J4_26 τ x1 x2 = some o4 → IC D J o Ld s H locs τ → lv_has ls 3 [(0, .ref o), (1, .int x1), (2, .int x2)] → W p l e ({ frames := 4, cells := 0, slots := 0, locals := 109 } : Room) s m args below meth c H locs 0 0 Q (F0 m 26 ls []) := by
      intro x1 x2 H locs ls hf hI hl
      unfold X1_apart_J4_26 at hf
      refine lv_aload_n hx hb dX1_apart_26 rfl (lv_at hl 0 rfl) ?_
      refine lv_iload_n hx hb dX1_apart_27 rfl (lv_at hl 2 rfl) ?_
      obtain ⟨x28, ex28, hf⟩ := obd hf
      refine ccallI (rest := []) hx hb hts hown hE hI hml hl.1 (mX1_allApart Λ Λn τ x2 _ ex28) (cwX1_allApart_X1 hts ⟨Nat.le_of_ble_eq_true rfl, Nat.le_of_ble_eq_true rfl⟩) (hI.1.o 0 rfl) rfl rfl ⟨Nat.le_of_ble_eq_true rfl, Nat.le_of_ble_eq_true rfl⟩ rfl rfl (lv_room (Nat.le_of_ble_eq_true rfl)) dX1_apart_28 (fun H locs hI => ?_)
      refine lv_if_eq (tgt := 36) hx hb dX1_apart_31 (by decide) (fun hc => ?_) (fun hc => ?_)
      · replace hf := ipos hc hf
        obtain ⟨v36, ev36, hf⟩ := obd hf
        refine lv_iinc (v := v36) (lv' := [(2, .int v36), (0, .ref o), (1, .int x1)]) hx hb dX1_apart_36 hl (k := 2) rfl (iiE ev36 (by decide)) (by decide) rfl (fun ls hl => ?_)
        refine lv_goto (tgt := 4) hx hb dX1_apart_39 (by decide) ?_
        exact hk _ (Option.some.inj hf).symm H locs ls hI (lv_sub hl [1, 2, 0] rfl)
      · replace hf := ineg hc hf
        refine lv_iload_n hx hb dX1_apart_34 rfl (lv_at hl 2 rfl) ?_
        refine lv_istore_n (lv' := [(1, .int x2), (0, .ref o), (2, .int x2)]) hx hb dX1_apart_35 rfl hl (by decide) rfl (fun ls hl => ?_)
        obtain ⟨v36_3, ev36_3, hf⟩ := obd hf
        refine lv_iinc (v := v36_3) (lv' := [(2, .int v36_3), (1, .int x2), (0, .ref o)]) hx hb dX1_apart_36 hl (k := 2) rfl (iiE ev36_3 (by decide)) (by decide) rfl (fun ls hl => ?_)
        refine lv_goto (tgt := 4) hx hb dX1_apart_39 (by decide) ?_
        exact hk _ (Option.some.inj hf).symm H locs ls hI (lv_sub hl [2, 1, 0] rfl)
    refine lv_iload_n hx hb dX1_apart_4 rfl (lv_at hl 2 rfl) ?_
    refine lv_bipush (v := (16 : Int32)) hx hb dX1_apart_5 (by decide) ?_
    refine lv_icmp_ge (tgt := 42) hx hb dX1_apart_7 (by decide) (fun hc => ?_) (fun hc => ?_)
    · replace hf := ipos hc hf
      exact hq _ (Option.some.inj hf).symm H locs ls hI (lv_sub hl [1] rfl)
    · replace hf := ineg hc hf
      refine lv_iload_n hx hb dX1_apart_10 rfl (lv_at hl 1 rfl) ?_
      refine lv_iconst (v := (-1 : Int32)) hx hb dX1_apart_11 (by decide) ?_
      refine lv_icmp_eq (tgt := 26) hx hb dX1_apart_12 (by decide) (fun hc => ?_) (fun hc => ?_)
      · replace hf := ipos hc hf
        exact hJ26 w4.1 w4.2 H locs ls hf hI  (lv_sub hl [0, 1, 2] rfl)
      · replace hf := ineg hc hf
        refine lv_iload_n hx hb dX1_apart_15 rfl (lv_at hl 2 rfl) ?_
        obtain ⟨x16, ex16, hf⟩ := obd hf
        refine tcallS (rest := []) hx hb hts hown hml hl.1 (mJ16_bitCount w4.2 _ ex16) (csJ16_bitCount_X1 hts ⟨Nat.le_of_ble_eq_true rfl, Nat.le_of_ble_eq_true rfl⟩) ⟨Nat.le_of_ble_eq_true rfl, Nat.le_of_ble_eq_true rfl⟩ rfl rfl (lv_room (Nat.le_of_ble_eq_true rfl)) dX1_apart_16 ?_
        refine lv_iload_n hx hb dX1_apart_19 rfl (lv_at hl 1 rfl) ?_
        obtain ⟨x20, ex20, hf⟩ := obd hf
        refine tcallS (rest := [.int x16]) hx hb hts hown hml hl.1 (mJ16_bitCount w4.1 _ ex20) (csJ16_bitCount_X1 hts ⟨Nat.le_of_ble_eq_true rfl, Nat.le_of_ble_eq_true rfl⟩) ⟨Nat.le_of_ble_eq_true rfl, Nat.le_of_ble_eq_true rfl⟩ rfl rfl (lv_room (Nat.le_of_ble_eq_true rfl)) dX1_apart_20 ?_
        refine lv_icmp_ge (tgt := 36) hx hb dX1_apart_23 (by decide) (fun hc => ?_) (fun hc => ?_)
        · replace hf := ipos hc hf
          obtain ⟨v36_6, ev36_6, hf⟩ := obd hf
          refine lv_iinc (v := v36_6) (lv' := [(2, .int v36_6), (0, .ref o), (1, .int w4.1)]) hx hb dX1_apart_36 hl (k := 2) rfl (iiE ev36_6 (by decide)) (by decide) rfl (fun ls hl => ?_)
          refine lv_goto (tgt := 4) hx hb dX1_apart_39 (by decide) ?_
          exact hk _ (Option.some.inj hf).symm H locs ls hI (lv_sub hl [1, 2, 0] rfl)
        · replace hf := ineg hc hf
          exact hJ26 w4.1 w4.2 H locs ls hf hI  (lv_sub hl [0, 1, 2] rfl)
  · skip
    intro H locs ls hI hl
    refine lv_iload_n hx hb dX1_apart_42 rfl (lv_at hl 0 rfl) ?_
    have hf := Option.some.inj hf
    rw [hf]
    exact hret H locs 43 ls hI dX1_apart_43

theorem cwX1_readFrom_X1 {R : Room} {s : State} {args : Array Value} {fr lo : Nat} (hts : ∀ w ∈ lw_all, w.before args s = true) (hR : fr + 1 ≤ R.frames ∧ 8 + (5 + 11) + lo ≤ R.locals) : CallW R s args RX1 RX1 598 yX1_readFrom cX1_readFrom 5 (some .int) (ws_ yX1_readFrom cX1_readFrom 5 (some .int)) ({ frames := fr, cells := 0, slots := 0, locals := lo }) 0 0 2 :=
  cwV 2 hts (lw_V q745 q747 qs9 q133 q748) rfl rfl rfl (by decide +kernel) hR
def X1_soonest_L8 (τ : Cs) (c1 : Int32) (w8 : Int32 × Int32 × Int32) : Option ((Int32 × Int32 × Int32) ⊕ (Int32 × Int32)) :=
  if (cw τ 0 0 2) ≤ w8.2.2 then
    some (.inr (w8.1, w8.2.1))
  else
    (X1_readFrom τ w8.2.2 (cw τ 0 0 4)).bind fun x30 =>
    (some (x30 - (cw τ 0 0 4))).bind fun v41 =>
    if v41 < w8.2.1 then
      (some (w8.2.2 + (1 : Int32))).bind fun v58 =>
      some (.inl (w8.2.2, v41, v58))
    else
      (some (w8.2.2 + (1 : Int32))).bind fun v58_4 =>
      some (.inl (w8.1, w8.2.1, v58_4))
def X1_soonest (τ : Cs) (a1 : Int32) : Option (Int32) :=
  (loopO (X1_soonest_L8 τ a1) FU ((-1 : Int32), (81 : Int32), (0 : Int32))).bind fun e8 =>
  if e8.1 = (-1 : Int32) then
    some e8.1
  else
    if a1 = (0 : Int32) then
      some e8.1
    else
      some e8.2
set_option maxHeartbeats 4000000 in
theorem mX1_soonest (Λ : Nat → Nat → (Nat → Int32) → Int32) (Λn : Nat → Int32) (τ : Cs) (a1 : Int32) (r : Int32) (hf : X1_soonest τ a1 = some r) : CMi yX1_soonest cX1_soonest 6 (some .int) 3 86 Λ Λn (fun o aK aF => [.ref o, .int a1]) r τ τ := by
  refine CMi.of (by decide) (fun _ _ _ => Nat.le_of_ble_eq_true rfl) ?_
  intro p l e s m args below meth c D J o z aK aV G Ld aF Q ls hx hb hml hown hts hE hret hI hl
  obtain ⟨H, eH⟩ : ∃ H, H = s.heap := ⟨_, rfl⟩
  obtain ⟨locs, eL⟩ : ∃ L : List Loc, L = [] := ⟨_, rfl⟩
  rw [← eH, ← eL] at hI ⊢
  have hown : s.vm.findClass RX1 = some m.cls := hown
  have hl : lv_has ls 6 [(0, .ref o), (1, .int a1)] := hl
  unfold X1_soonest at hf
  refine lv_iconst (v := (-1 : Int32)) hx hb dX1_soonest_0 (by decide) ?_
  refine lv_istore_n (lv' := [(2, .int (-1 : Int32)), (0, .ref o), (1, .int a1)]) hx hb dX1_soonest_1 rfl hl (by decide) rfl (fun ls hl => ?_)
  refine lv_bipush (v := (81 : Int32)) hx hb dX1_soonest_2 (by decide) ?_
  refine lv_istore_n (lv' := [(3, .int (81 : Int32)), (2, .int (-1 : Int32)), (0, .ref o), (1, .int a1)]) hx hb dX1_soonest_4 rfl hl (by decide) rfl (fun ls hl => ?_)
  refine lv_iconst (v := (0 : Int32)) hx hb dX1_soonest_5 (by decide) ?_
  refine lv_istore (lv' := [(4, .int (0 : Int32)), (3, .int (81 : Int32)), (2, .int (-1 : Int32)), (0, .ref o), (1, .int a1)]) hx hb dX1_soonest_6 hl (by decide) rfl (fun ls hl => ?_)
  obtain ⟨e8, he8, hf⟩ := obd hf
  have hs8 : ∀ (c1 : Int32), ∀ (w8 : Int32 × Int32 × Int32) (o8 : (Int32 × Int32 × Int32) ⊕ (Int32 × Int32)), X1_soonest_L8 τ c1 w8 = some o8 → (∀ wx_, o8 = .inl wx_ → ∀ (H : Heap) (locs : List Loc) (ls : Array Slot), IC D J o Ld s H locs τ → lv_has ls 6 [(0, .ref o), (1, .int c1), (2, .int wx_.1), (3, .int wx_.2.1), (4, .int wx_.2.2)] → W p l e ({ frames := 3, cells := 0, slots := 0, locals := 86 } : Room) s m args below meth c H locs 0 0 Q (F0 m 8 ls [])) → (∀ ex_, o8 = .inr ex_ → ∀ (H : Heap) (locs : List Loc) (ls : Array Slot), IC D J o Ld s H locs τ → lv_has ls 6 [(1, .int c1), (2, .int ex_.1), (3, .int ex_.2)] → W p l e ({ frames := 3, cells := 0, slots := 0, locals := 86 } : Room) s m args below meth c H locs 0 0 Q (F0 m 64 ls [])) → ∀ (H : Heap) (locs : List Loc) (ls : Array Slot), IC D J o Ld s H locs τ → lv_has ls 6 [(0, .ref o), (1, .int c1), (2, .int w8.1), (3, .int w8.2.1), (4, .int w8.2.2)] → W p l e ({ frames := 3, cells := 0, slots := 0, locals := 86 } : Room) s m args below meth c H locs 0 0 Q (F0 m 8 ls []) := by
    intro c1 w8 o8 hf hk hq H locs ls hI hl
    unfold X1_soonest_L8 at hf
    refine lv_iload hx hb dX1_soonest_8 (lv_at hl 4 rfl) ?_
    refine lv_aload_n hx hb dX1_soonest_10 rfl (lv_at hl 0 rfl) ?_
    refine gget hx hb hts in_X1 hown hE.1.1 (hI.1.o 0 rfl) rfl 0 (by decide) q463 rfl dX1_soonest_11 ?_
    refine ggetN hx hb hts in_X2 hown hE.1.1 (hI.1.w 0 (by decide) 0 rfl) rfl 2 (by decide) (hE.1.2.2.f 3 rfl) rfl dX1_soonest_14 ?_
    refine lv_icmp_ge (tgt := 64) hx hb dX1_soonest_17 (by decide) (fun hc => ?_) (fun hc => ?_)
    · replace hf := ipos hc hf
      exact hq _ (Option.some.inj hf).symm H locs ls hI (lv_sub hl [1, 2, 3] rfl)
    · replace hf := ineg hc hf
      refine lv_aload_n hx hb dX1_soonest_20 rfl (lv_at hl 0 rfl) ?_
      refine lv_iload hx hb dX1_soonest_21 (lv_at hl 4 rfl) ?_
      refine lv_aload_n hx hb dX1_soonest_23 rfl (lv_at hl 0 rfl) ?_
      refine gget hx hb hts in_X1 hown hE.1.1 (hI.1.o 0 rfl) rfl 0 (by decide) q463 rfl dX1_soonest_24 ?_
      refine ggetN hx hb hts in_X2 hown hE.1.1 (hI.1.w 0 (by decide) 0 rfl) rfl 4 (by decide) (hE.1.2.2.f 6 rfl) rfl dX1_soonest_27 ?_
      obtain ⟨x30, ex30, hf⟩ := obd hf
      refine ccallI (rest := []) hx hb hts hown hE hI hml hl.1 (mX1_readFrom Λ Λn τ w8.2.2 (cw τ 0 0 4) _ ex30) (cwX1_readFrom_X1 hts ⟨Nat.le_of_ble_eq_true rfl, Nat.le_of_ble_eq_true rfl⟩) (hI.1.o 0 rfl) rfl rfl ⟨Nat.le_of_ble_eq_true rfl, Nat.le_of_ble_eq_true rfl⟩ rfl rfl (lv_room (Nat.le_of_ble_eq_true rfl)) dX1_soonest_30 (fun H locs hI => ?_)
      refine lv_aload_n hx hb dX1_soonest_33 rfl (lv_at hl 0 rfl) ?_
      refine gget hx hb hts in_X1 hown hE.1.1 (hI.1.o 0 rfl) rfl 0 (by decide) q463 rfl dX1_soonest_34 ?_
      refine ggetN hx hb hts in_X2 hown hE.1.1 (hI.1.w 0 (by decide) 0 rfl) rfl 4 (by decide) (hE.1.2.2.f 6 rfl) rfl dX1_soonest_37 ?_
      refine lv_isub hx hb dX1_soonest_40 ?_
      obtain ⟨v41, ev41, hf⟩ := obd hf
      refine nmI ev41 ?_
      refine lv_istore (lv' := [(5, .int v41), (0, .ref o), (1, .int c1), (2, .int w8.1), (3, .int w8.2.1), (4, .int w8.2.2)]) hx hb dX1_soonest_41 hl (by decide) rfl (fun ls hl => ?_)
      refine lv_iload hx hb dX1_soonest_43 (lv_at hl 0 rfl) ?_
      refine lv_iload_n hx hb dX1_soonest_45 rfl (lv_at hl 4 rfl) ?_
      refine lv_icmp_lt (tgt := 52) hx hb dX1_soonest_46 (by decide) (fun hc => ?_) (fun hc => ?_)
      · replace hf := ipos hc hf
        refine lv_iload hx hb dX1_soonest_52 (lv_at hl 5 rfl) ?_
        refine lv_istore_n (lv' := [(2, .int w8.2.2), (5, .int v41), (0, .ref o), (1, .int c1), (3, .int w8.2.1), (4, .int w8.2.2)]) hx hb dX1_soonest_54 rfl hl (by decide) rfl (fun ls hl => ?_)
        refine lv_iload hx hb dX1_soonest_55 (lv_at hl 1 rfl) ?_
        refine lv_istore_n (lv' := [(3, .int v41), (2, .int w8.2.2), (5, .int v41), (0, .ref o), (1, .int c1), (4, .int w8.2.2)]) hx hb dX1_soonest_57 rfl hl (by decide) rfl (fun ls hl => ?_)
        obtain ⟨v58, ev58, hf⟩ := obd hf
        refine lv_iinc (v := v58) (lv' := [(4, .int v58), (3, .int v41), (2, .int w8.2.2), (5, .int v41), (0, .ref o), (1, .int c1)]) hx hb dX1_soonest_58 hl (k := 5) rfl (iiE ev58 (by decide)) (by decide) rfl (fun ls hl => ?_)
        refine lv_goto (tgt := 8) hx hb dX1_soonest_61 (by decide) ?_
        exact hk _ (Option.some.inj hf).symm H locs ls hI (lv_sub hl [4, 5, 2, 1, 0] rfl)
      · replace hf := ineg hc hf
        refine lv_goto (tgt := 58) hx hb dX1_soonest_49 (by decide) ?_
        obtain ⟨v58_4, ev58_4, hf⟩ := obd hf
        refine lv_iinc (v := v58_4) (lv' := [(4, .int v58_4), (5, .int v41), (0, .ref o), (1, .int c1), (2, .int w8.1), (3, .int w8.2.1)]) hx hb dX1_soonest_58 hl (k := 5) rfl (iiE ev58_4 (by decide)) (by decide) rfl (fun ls hl => ?_)
        refine lv_goto (tgt := 8) hx hb dX1_soonest_61 (by decide) ?_
        exact hk _ (Option.some.inj hf).symm H locs ls hI (lv_sub hl [2, 3, 4, 5, 0] rfl)
  refine loopO_W (Wat := fun w8 => ∀ (H : Heap) (locs : List Loc) (ls : Array Slot), IC D J o Ld s H locs τ → lv_has ls 6 [(0, .ref o), (1, .int a1), (2, .int w8.1), (3, .int w8.2.1), (4, .int w8.2.2)] → W p l e ({ frames := 3, cells := 0, slots := 0, locals := 86 } : Room) s m args below meth c H locs 0 0 Q (F0 m 8 ls [])) (Wex := fun ex_ => ∀ (H : Heap) (locs : List Loc) (ls : Array Slot), IC D J o Ld s H locs τ → lv_has ls 6 [(1, .int a1), (2, .int ex_.1), (3, .int ex_.2)] → W p l e ({ frames := 3, cells := 0, slots := 0, locals := 86 } : Room) s m args below meth c H locs 0 0 Q (F0 m 64 ls [])) (hs8 a1) FU _ e8 he8 ?_ H locs ls hI (lv_sub hl [3, 4, 2, 1, 0] rfl)
  · skip
    intro H locs ls hI hl
    refine lv_iload_n hx hb dX1_soonest_64 rfl (lv_at hl 1 rfl) ?_
    refine lv_iconst (v := (-1 : Int32)) hx hb dX1_soonest_65 (by decide) ?_
    refine lv_icmp_eq (tgt := 73) hx hb dX1_soonest_66 (by decide) (fun hc => ?_) (fun hc => ?_)
    · replace hf := ipos hc hf
      refine lv_iload_n hx hb dX1_soonest_73 rfl (lv_at hl 1 rfl) ?_
      refine lv_goto (tgt := 78) hx hb dX1_soonest_74 (by decide) ?_
      have hf := Option.some.inj hf
      rw [hf]
      exact hret H locs 78 ls hI dX1_soonest_78
    · replace hf := ineg hc hf
      refine lv_iload_n hx hb dX1_soonest_69 rfl (lv_at hl 0 rfl) ?_
      refine lv_if_ne (tgt := 77) hx hb dX1_soonest_70 (by decide) (fun hc => ?_) (fun hc => ?_)
      · replace hf := ineg hc hf
        refine lv_iload_n hx hb dX1_soonest_77 rfl (lv_at hl 2 rfl) ?_
        have hf := Option.some.inj hf
        rw [hf]
        exact hret H locs 78 ls hI dX1_soonest_78
      · replace hf := ipos hc hf
        refine lv_iload_n hx hb dX1_soonest_73 rfl (lv_at hl 1 rfl) ?_
        refine lv_goto (tgt := 78) hx hb dX1_soonest_74 (by decide) ?_
        have hf := Option.some.inj hf
        rw [hf]
        exact hret H locs 78 ls hI dX1_soonest_78

theorem cwX2_paidOnes_X1 {R : Room} {s : State} {args : Array Value} {fr lo : Nat} (hts : ∀ w ∈ lw_all, w.before args s = true) (hR : fr + 1 ≤ R.frames ∧ 8 + (3 + 11) + lo ≤ R.locals) : CallW R s args RX1 RX2 610 yX2_paidOnes cX2_paidOnes 3 (some .int) (ws_ yX2_paidOnes cX2_paidOnes 3 (some .int)) ({ frames := fr, cells := 0, slots := 0, locals := lo }) 0 0 0 :=
  cwV 0 hts (lw_V q761 q762 q763 q134 q764) rfl rfl rfl (by decide +kernel) hR
def X1_owesBy_J33_122 (τ : Cs) (c1 : Int32) (c2 : Int32) (c3 : Int32) (c4 : Int32) (x6 : Int32) (x7 : Int32) (x8 : Int32) (y0 : Int32) (y1 : Int32) : Option ((Int32 × Int32) ⊕ (Int32)) :=
  (some (y1 + y0)).bind fun v123 =>
  if x7 = c2 then
    if x8 = c1 then
      (ld 8 (cw τ 0 19) x6).bind fun x148 =>
      (some (v123 - x148)).bind fun v154_11 =>
      (some (x6 + (1 : Int32))).bind fun v156_12 =>
      some (.inl (v154_11, v156_12))
    else
      (some (v123 - (0 : Int32))).bind fun v154_8 =>
      (some (x6 + (1 : Int32))).bind fun v156_9 =>
      some (.inl (v154_8, v156_9))
  else
    (some (v123 - (0 : Int32))).bind fun v154 =>
    (some (x6 + (1 : Int32))).bind fun v156 =>
    some (.inl (v154, v156))
def X1_owesBy_J33_121 (τ : Cs) (c1 : Int32) (c2 : Int32) (c3 : Int32) (c4 : Int32) (x6 : Int32) (x7 : Int32) (x8 : Int32) (y0 : Int32) : Option ((Int32 × Int32) ⊕ (Int32)) :=
  X1_owesBy_J33_122 τ c1 c2 c3 c4 x6 x7 x8 (0 : Int32) y0
def X1_owesBy_L33 (τ : Cs) (c1 : Int32) (c2 : Int32) (c3 : Int32) (c4 : Int32) (w33 : Int32 × Int32) : Option ((Int32 × Int32) ⊕ (Int32)) :=
  if (cw τ 0 0 3) ≤ w33.2 then
    some (.inr w33.1)
  else
    (ld 8 (cw τ 0 17) w33.2).bind fun x54 =>
    (ld 8 (cw τ 0 18) w33.2).bind fun x66 =>
    (X1_has c4 w33.2).bind fun x73 =>
    if x73 = (0 : Int32) then
      (some (w33.2 + (1 : Int32))).bind fun v156_16 =>
      some (.inl (w33.1, v156_16))
    else
      if x54 = c3 then
        (some (w33.2 + (1 : Int32))).bind fun v156_17 =>
        some (.inl (w33.1, v156_17))
      else
        if x66 = c3 then
          (some (w33.2 + (1 : Int32))).bind fun v156_19 =>
          some (.inl (w33.1, v156_19))
        else
          if x54 = c1 then
            if x66 = c2 then
              (ld 8 (cw τ 0 19) w33.2).bind fun x117 =>
              X1_owesBy_J33_122 τ c1 c2 c3 c4 w33.2 x54 x66 x117 w33.1
            else
              X1_owesBy_J33_121 τ c1 c2 c3 c4 w33.2 x54 x66 w33.1
          else
            X1_owesBy_J33_121 τ c1 c2 c3 c4 w33.2 x54 x66 w33.1
def X1_owesBy (τ : Cs) (a1 : Int32) (a2 : Int32) (a3 : Int32) : Option (Int32) :=
  (X2_of (cw τ 0) (1 : Int32)).bind fun x9 =>
  (X2_valid (cw τ 0) x9).bind fun x12 =>
  (X2_paidOnes (cw τ 0)).bind fun x19 =>
  (some (x12 &&& (x19 ^^^ (-1 : Int32)))).bind fun v25 =>
  (loopO (X1_owesBy_L33 τ a1 a2 a3 v25) FU ((0 : Int32), (0 : Int32))).bind fun e33 =>
  some e33
set_option maxHeartbeats 4000000 in
theorem mX1_owesBy (Λ : Nat → Nat → (Nat → Int32) → Int32) (Λn : Nat → Int32) (τ : Cs) (a1 : Int32) (a2 : Int32) (a3 : Int32) (r : Int32) (hf : X1_owesBy τ a1 a2 a3 = some r) : CMi yX1_owesBy cX1_owesBy 9 (some .int) 4 106 Λ Λn (fun o aK aF => [.ref o, .int a1, .int a2, .int a3]) r τ τ := by
  refine CMi.of (by decide) (fun _ _ _ => Nat.le_of_ble_eq_true rfl) ?_
  intro p l e s m args below meth c D J o z aK aV G Ld aF Q ls hx hb hml hown hts hE hret hI hl
  obtain ⟨H, eH⟩ : ∃ H, H = s.heap := ⟨_, rfl⟩
  obtain ⟨locs, eL⟩ : ∃ L : List Loc, L = [] := ⟨_, rfl⟩
  rw [← eH, ← eL] at hI ⊢
  have hown : s.vm.findClass RX1 = some m.cls := hown
  have hl : lv_has ls 9 [(0, .ref o), (1, .int a1), (2, .int a2), (3, .int a3)] := hl
  unfold X1_owesBy at hf
  refine lv_aload_n hx hb dX1_owesBy_0 rfl (lv_at hl 0 rfl) ?_
  refine gget hx hb hts in_X1 hown hE.1.1 (hI.1.o 0 rfl) rfl 0 (by decide) q463 rfl dX1_owesBy_1 ?_
  refine lv_aload_n hx hb dX1_owesBy_4 rfl (lv_at hl 0 rfl) ?_
  refine gget hx hb hts in_X1 hown hE.1.1 (hI.1.o 0 rfl) rfl 0 (by decide) q463 rfl dX1_owesBy_5 ?_
  refine lv_iconst (v := (1 : Int32)) hx hb dX1_owesBy_8 (by decide) ?_
  obtain ⟨x9, ex9, hf⟩ := obd hf
  refine cworldI (rest := [.ref (wA o 0)]) hx hb hts hown hE hI hml hl.1 (mX2_of (cw τ 0) (1 : Int32) _ ex9) (by decide) (cwX2_of_X1 hts ⟨Nat.le_of_ble_eq_true rfl, Nat.le_of_ble_eq_true rfl⟩) (congrArg some (cwu_self τ 0)) ⟨Nat.le_of_ble_eq_true rfl, Nat.le_of_ble_eq_true rfl⟩ rfl rfl (lv_room (Nat.le_of_ble_eq_true rfl)) dX1_owesBy_9 (fun H locs hI => ?_)
  obtain ⟨x12, ex12, hf⟩ := obd hf
  refine cworldI (rest := []) hx hb hts hown hE hI hml hl.1 (mX2_valid (cw τ 0) x9 _ ex12) (by decide) (cwX2_valid_X1 hts ⟨Nat.le_of_ble_eq_true rfl, Nat.le_of_ble_eq_true rfl⟩) (congrArg some (cwu_self τ 0)) ⟨Nat.le_of_ble_eq_true rfl, Nat.le_of_ble_eq_true rfl⟩ rfl rfl (lv_room (Nat.le_of_ble_eq_true rfl)) dX1_owesBy_12 (fun H locs hI => ?_)
  refine lv_aload_n hx hb dX1_owesBy_15 rfl (lv_at hl 0 rfl) ?_
  refine gget hx hb hts in_X1 hown hE.1.1 (hI.1.o 0 rfl) rfl 0 (by decide) q463 rfl dX1_owesBy_16 ?_
  obtain ⟨x19, ex19, hf⟩ := obd hf
  refine cworldI (rest := [.int x12]) hx hb hts hown hE hI hml hl.1 (mX2_paidOnes (cw τ 0) _ ex19) (by decide) (cwX2_paidOnes_X1 hts ⟨Nat.le_of_ble_eq_true rfl, Nat.le_of_ble_eq_true rfl⟩) (congrArg some (cwu_self τ 0)) ⟨Nat.le_of_ble_eq_true rfl, Nat.le_of_ble_eq_true rfl⟩ rfl rfl (lv_room (Nat.le_of_ble_eq_true rfl)) dX1_owesBy_19 (fun H locs hI => ?_)
  refine lv_iconst (v := (-1 : Int32)) hx hb dX1_owesBy_22 (by decide) ?_
  refine lv_ixor hx hb dX1_owesBy_23 ?_
  refine lv_iand hx hb dX1_owesBy_24 ?_
  obtain ⟨v25, ev25, hf⟩ := obd hf
  refine nmI ev25 ?_
  refine lv_istore (lv' := [(4, .int v25), (0, .ref o), (1, .int a1), (2, .int a2), (3, .int a3)]) hx hb dX1_owesBy_25 hl (by decide) rfl (fun ls hl => ?_)
  refine lv_iconst (v := (0 : Int32)) hx hb dX1_owesBy_27 (by decide) ?_
  refine lv_istore (lv' := [(5, .int (0 : Int32)), (4, .int v25), (0, .ref o), (1, .int a1), (2, .int a2), (3, .int a3)]) hx hb dX1_owesBy_28 hl (by decide) rfl (fun ls hl => ?_)
  refine lv_iconst (v := (0 : Int32)) hx hb dX1_owesBy_30 (by decide) ?_
  refine lv_istore (lv' := [(6, .int (0 : Int32)), (5, .int (0 : Int32)), (4, .int v25), (0, .ref o), (1, .int a1), (2, .int a2), (3, .int a3)]) hx hb dX1_owesBy_31 hl (by decide) rfl (fun ls hl => ?_)
  obtain ⟨e33, he33, hf⟩ := obd hf
  have hs33 : ∀ (c1 : Int32) (c2 : Int32) (c3 : Int32) (c4 : Int32), ∀ (w33 : Int32 × Int32) (o33 : (Int32 × Int32) ⊕ (Int32)), X1_owesBy_L33 τ c1 c2 c3 c4 w33 = some o33 → (∀ wx_, o33 = .inl wx_ → ∀ (H : Heap) (locs : List Loc) (ls : Array Slot), IC D J o Ld s H locs τ → lv_has ls 9 [(0, .ref o), (1, .int c1), (2, .int c2), (3, .int c3), (4, .int c4), (5, .int wx_.1), (6, .int wx_.2)] → W p l e ({ frames := 4, cells := 0, slots := 0, locals := 106 } : Room) s m args below meth c H locs 0 0 Q (F0 m 33 ls [])) → (∀ ex_, o33 = .inr ex_ → ∀ (H : Heap) (locs : List Loc) (ls : Array Slot), IC D J o Ld s H locs τ → lv_has ls 9 [(5, .int ex_)] → W p l e ({ frames := 4, cells := 0, slots := 0, locals := 106 } : Room) s m args below meth c H locs 0 0 Q (F0 m 162 ls [])) → ∀ (H : Heap) (locs : List Loc) (ls : Array Slot), IC D J o Ld s H locs τ → lv_has ls 9 [(0, .ref o), (1, .int c1), (2, .int c2), (3, .int c3), (4, .int c4), (5, .int w33.1), (6, .int w33.2)] → W p l e ({ frames := 4, cells := 0, slots := 0, locals := 106 } : Room) s m args below meth c H locs 0 0 Q (F0 m 33 ls []) := by
    intro c1 c2 c3 c4 w33 o33 hf hk hq H locs ls hI hl
    unfold X1_owesBy_L33 at hf
    have hJ122 : ∀ (x6 : Int32) (x7 : Int32) (x8 : Int32) (y0 : Int32) (y1 : Int32) (H : Heap) (locs : List Loc) (ls : Array Slot), X1_owesBy_J33_122 τ c1 c2 c3 c4 x6 x7 x8 y0 y1 = some o33 → IC D J o Ld s H locs τ → lv_has ls 9 [(0, .ref o), (1, .int c1), (2, .int c2), (3, .int c3), (4, .int c4), (6, .int x6), (7, .int x7), (8, .int x8)] → W p l e ({ frames := 4, cells := 0, slots := 0, locals := 106 } : Room) s m args below meth c H locs 0 0 Q (F0 m 122 ls [.int y0, .int y1]) := by
      intro x6 x7 x8 y0 y1 H locs ls hf hI hl
      unfold X1_owesBy_J33_122 at hf
      refine lv_iadd hx hb dX1_owesBy_122 ?_
      obtain ⟨v123, ev123, hf⟩ := obd hf
      refine nmI ev123 ?_
      refine lv_istore (lv' := [(5, .int v123), (0, .ref o), (1, .int c1), (2, .int c2), (3, .int c3), (4, .int c4), (6, .int x6), (7, .int x7), (8, .int x8)]) hx hb dX1_owesBy_123 hl (by decide) rfl (fun ls hl => ?_)
      refine lv_iload hx hb dX1_owesBy_125 (lv_at hl 0 rfl) ?_
      refine lv_iload hx hb dX1_owesBy_127 (lv_at hl 7 rfl) ?_
      refine lv_iload_n hx hb dX1_owesBy_129 rfl (lv_at hl 3 rfl) ?_
      refine lv_icmp_ne (tgt := 152) hx hb dX1_owesBy_130 (by decide) (fun hc => ?_) (fun hc => ?_)
      · replace hf := ineg hc hf
        refine lv_iconst (v := (0 : Int32)) hx hb dX1_owesBy_152 (by decide) ?_
        refine lv_isub hx hb dX1_owesBy_153 ?_
        obtain ⟨v154, ev154, hf⟩ := obd hf
        refine nmI ev154 ?_
        refine lv_istore (lv' := [(5, .int v154), (0, .ref o), (1, .int c1), (2, .int c2), (3, .int c3), (4, .int c4), (6, .int x6), (7, .int x7), (8, .int x8)]) hx hb dX1_owesBy_154 hl (by decide) rfl (fun ls hl => ?_)
        obtain ⟨v156, ev156, hf⟩ := obd hf
        refine lv_iinc (v := v156) (lv' := [(6, .int v156), (5, .int v154), (0, .ref o), (1, .int c1), (2, .int c2), (3, .int c3), (4, .int c4), (7, .int x7), (8, .int x8)]) hx hb dX1_owesBy_156 hl (k := 6) rfl (iiE ev156 (by decide)) (by decide) rfl (fun ls hl => ?_)
        refine lv_goto (tgt := 33) hx hb dX1_owesBy_159 (by decide) ?_
        exact hk _ (Option.some.inj hf).symm H locs ls hI (lv_sub hl [2, 3, 4, 5, 6, 1, 0] rfl)
      · replace hf := ipos hc hf
        refine lv_iload hx hb dX1_owesBy_133 (lv_at hl 8 rfl) ?_
        refine lv_iload_n hx hb dX1_owesBy_135 rfl (lv_at hl 2 rfl) ?_
        refine lv_icmp_ne (tgt := 152) hx hb dX1_owesBy_136 (by decide) (fun hc => ?_) (fun hc => ?_)
        · replace hf := ineg hc hf
          refine lv_iconst (v := (0 : Int32)) hx hb dX1_owesBy_152 (by decide) ?_
          refine lv_isub hx hb dX1_owesBy_153 ?_
          obtain ⟨v154_8, ev154_8, hf⟩ := obd hf
          refine nmI ev154_8 ?_
          refine lv_istore (lv' := [(5, .int v154_8), (0, .ref o), (1, .int c1), (2, .int c2), (3, .int c3), (4, .int c4), (6, .int x6), (7, .int x7), (8, .int x8)]) hx hb dX1_owesBy_154 hl (by decide) rfl (fun ls hl => ?_)
          obtain ⟨v156_9, ev156_9, hf⟩ := obd hf
          refine lv_iinc (v := v156_9) (lv' := [(6, .int v156_9), (5, .int v154_8), (0, .ref o), (1, .int c1), (2, .int c2), (3, .int c3), (4, .int c4), (7, .int x7), (8, .int x8)]) hx hb dX1_owesBy_156 hl (k := 6) rfl (iiE ev156_9 (by decide)) (by decide) rfl (fun ls hl => ?_)
          refine lv_goto (tgt := 33) hx hb dX1_owesBy_159 (by decide) ?_
          exact hk _ (Option.some.inj hf).symm H locs ls hI (lv_sub hl [2, 3, 4, 5, 6, 1, 0] rfl)
        · replace hf := ipos hc hf
          refine lv_aload_n hx hb dX1_owesBy_139 rfl (lv_at hl 1 rfl) ?_
          refine gget hx hb hts in_X1 hown hE.1.1 (hI.1.o 0 rfl) rfl 0 (by decide) q463 rfl dX1_owesBy_140 ?_
          refine ggetN hx hb hts in_X2 hown hE.1.1 (hI.1.w 0 (by decide) 0 rfl) rfl 19 (by decide) (hE.1.2.2.f 26 rfl) rfl dX1_owesBy_143 ?_
          refine lv_iload hx hb dX1_owesBy_146 (lv_at hl 6 rfl) ?_
          obtain ⟨x148, ex148, hf⟩ := obd hf
          refine gald hx hb hE.1.1 0 (hI.1.w 0 (by decide) 11 rfl) rfl ex148 dX1_owesBy_148 ?_
          refine lv_goto (tgt := 153) hx hb dX1_owesBy_149 (by decide) ?_
          refine lv_isub hx hb dX1_owesBy_153 ?_
          obtain ⟨v154_11, ev154_11, hf⟩ := obd hf
          refine nmI ev154_11 ?_
          refine lv_istore (lv' := [(5, .int v154_11), (0, .ref o), (1, .int c1), (2, .int c2), (3, .int c3), (4, .int c4), (6, .int x6), (7, .int x7), (8, .int x8)]) hx hb dX1_owesBy_154 hl (by decide) rfl (fun ls hl => ?_)
          obtain ⟨v156_12, ev156_12, hf⟩ := obd hf
          refine lv_iinc (v := v156_12) (lv' := [(6, .int v156_12), (5, .int v154_11), (0, .ref o), (1, .int c1), (2, .int c2), (3, .int c3), (4, .int c4), (7, .int x7), (8, .int x8)]) hx hb dX1_owesBy_156 hl (k := 6) rfl (iiE ev156_12 (by decide)) (by decide) rfl (fun ls hl => ?_)
          refine lv_goto (tgt := 33) hx hb dX1_owesBy_159 (by decide) ?_
          exact hk _ (Option.some.inj hf).symm H locs ls hI (lv_sub hl [2, 3, 4, 5, 6, 1, 0] rfl)
    have hJ121 : ∀ (x6 : Int32) (x7 : Int32) (x8 : Int32) (y0 : Int32) (H : Heap) (locs : List Loc) (ls : Array Slot), X1_owesBy_J33_121 τ c1 c2 c3 c4 x6 x7 x8 y0 = some o33 → IC D J o Ld s H locs τ → lv_has ls 9 [(0, .ref o), (1, .int c1), (2, .int c2), (3, .int c3), (4, .int c4), (6, .int x6), (7, .int x7), (8, .int x8)] → W p l e ({ frames := 4, cells := 0, slots := 0, locals := 106 } : Room) s m args below meth c H locs 0 0 Q (F0 m 121 ls [.int y0]) := by
      intro x6 x7 x8 y0 H locs ls hf hI hl
      unfold X1_owesBy_J33_121 at hf
      refine lv_iconst (v := (0 : Int32)) hx hb dX1_owesBy_121 (by decide) ?_
      exact hJ122 x6 x7 x8 (0 : Int32) y0 H locs ls hf hI  (lv_sub hl [0, 1, 2, 3, 4, 5, 6, 7] rfl)
    refine lv_iload hx hb dX1_owesBy_33 (lv_at hl 6 rfl) ?_
    refine lv_aload_n hx hb dX1_owesBy_35 rfl (lv_at hl 0 rfl) ?_
    refine gget hx hb hts in_X1 hown hE.1.1 (hI.1.o 0 rfl) rfl 0 (by decide) q463 rfl dX1_owesBy_36 ?_
    refine ggetN hx hb hts in_X2 hown hE.1.1 (hI.1.w 0 (by decide) 0 rfl) rfl 3 (by decide) (hE.1.2.2.f 5 rfl) rfl dX1_owesBy_39 ?_
    refine lv_icmp_ge (tgt := 162) hx hb dX1_owesBy_42 (by decide) (fun hc => ?_) (fun hc => ?_)
    · replace hf := ipos hc hf
      exact hq _ (Option.some.inj hf).symm H locs ls hI (lv_sub hl [5] rfl)
    · replace hf := ineg hc hf
      refine lv_aload_n hx hb dX1_owesBy_45 rfl (lv_at hl 0 rfl) ?_
      refine gget hx hb hts in_X1 hown hE.1.1 (hI.1.o 0 rfl) rfl 0 (by decide) q463 rfl dX1_owesBy_46 ?_
      refine ggetN hx hb hts in_X2 hown hE.1.1 (hI.1.w 0 (by decide) 0 rfl) rfl 17 (by decide) (hE.1.2.2.f 22 rfl) rfl dX1_owesBy_49 ?_
      refine lv_iload hx hb dX1_owesBy_52 (lv_at hl 6 rfl) ?_
      obtain ⟨x54, ex54, hf⟩ := obd hf
      refine gald hx hb hE.1.1 0 (hI.1.w 0 (by decide) 9 rfl) rfl ex54 dX1_owesBy_54 ?_
      refine lv_istore (lv' := [(7, .int x54), (0, .ref o), (1, .int c1), (2, .int c2), (3, .int c3), (4, .int c4), (5, .int w33.1), (6, .int w33.2)]) hx hb dX1_owesBy_55 hl (by decide) rfl (fun ls hl => ?_)
      refine lv_aload_n hx hb dX1_owesBy_57 rfl (lv_at hl 1 rfl) ?_
      refine gget hx hb hts in_X1 hown hE.1.1 (hI.1.o 0 rfl) rfl 0 (by decide) q463 rfl dX1_owesBy_58 ?_
      refine ggetN hx hb hts in_X2 hown hE.1.1 (hI.1.w 0 (by decide) 0 rfl) rfl 18 (by decide) (hE.1.2.2.f 24 rfl) rfl dX1_owesBy_61 ?_
      refine lv_iload hx hb dX1_owesBy_64 (lv_at hl 7 rfl) ?_
      obtain ⟨x66, ex66, hf⟩ := obd hf
      refine gald hx hb hE.1.1 0 (hI.1.w 0 (by decide) 10 rfl) rfl ex66 dX1_owesBy_66 ?_
      refine lv_istore (lv' := [(8, .int x66), (7, .int x54), (0, .ref o), (1, .int c1), (2, .int c2), (3, .int c3), (4, .int c4), (5, .int w33.1), (6, .int w33.2)]) hx hb dX1_owesBy_67 hl (by decide) rfl (fun ls hl => ?_)
      refine lv_iload hx hb dX1_owesBy_69 (lv_at hl 6 rfl) ?_
      refine lv_iload hx hb dX1_owesBy_71 (lv_at hl 8 rfl) ?_
      obtain ⟨x73, ex73, hf⟩ := obd hf
      refine tcallS (rest := []) hx hb hts hown hml hl.1 (mX1_has c4 w33.2 _ ex73) (csX1_has_X1 hts ⟨Nat.le_of_ble_eq_true rfl, Nat.le_of_ble_eq_true rfl⟩) ⟨Nat.le_of_ble_eq_true rfl, Nat.le_of_ble_eq_true rfl⟩ rfl rfl (lv_room (Nat.le_of_ble_eq_true rfl)) dX1_owesBy_73 ?_
      refine lv_if_eq (tgt := 156) hx hb dX1_owesBy_76 (by decide) (fun hc => ?_) (fun hc => ?_)
      · replace hf := ipos hc hf
        obtain ⟨v156_16, ev156_16, hf⟩ := obd hf
        refine lv_iinc (v := v156_16) (lv' := [(6, .int v156_16), (8, .int x66), (7, .int x54), (0, .ref o), (1, .int c1), (2, .int c2), (3, .int c3), (4, .int c4), (5, .int w33.1)]) hx hb dX1_owesBy_156 hl (k := 8) rfl (iiE ev156_16 (by decide)) (by decide) rfl (fun ls hl => ?_)
        refine lv_goto (tgt := 33) hx hb dX1_owesBy_159 (by decide) ?_
        exact hk _ (Option.some.inj hf).symm H locs ls hI (lv_sub hl [3, 4, 5, 6, 7, 8, 0] rfl)
      · replace hf := ineg hc hf
        refine lv_iload hx hb dX1_owesBy_79 (lv_at hl 1 rfl) ?_
        refine lv_iload_n hx hb dX1_owesBy_81 rfl (lv_at hl 5 rfl) ?_
        refine lv_icmp_eq (tgt := 156) hx hb dX1_owesBy_82 (by decide) (fun hc => ?_) (fun hc => ?_)
        · replace hf := ipos hc hf
          obtain ⟨v156_17, ev156_17, hf⟩ := obd hf
          refine lv_iinc (v := v156_17) (lv' := [(6, .int v156_17), (8, .int x66), (7, .int x54), (0, .ref o), (1, .int c1), (2, .int c2), (3, .int c3), (4, .int c4), (5, .int w33.1)]) hx hb dX1_owesBy_156 hl (k := 8) rfl (iiE ev156_17 (by decide)) (by decide) rfl (fun ls hl => ?_)
          refine lv_goto (tgt := 33) hx hb dX1_owesBy_159 (by decide) ?_
          exact hk _ (Option.some.inj hf).symm H locs ls hI (lv_sub hl [3, 4, 5, 6, 7, 8, 0] rfl)
        · replace hf := ineg hc hf
          refine lv_iload hx hb dX1_owesBy_85 (lv_at hl 0 rfl) ?_
          refine lv_iload_n hx hb dX1_owesBy_87 rfl (lv_at hl 5 rfl) ?_
          refine lv_icmp_ne (tgt := 94) hx hb dX1_owesBy_88 (by decide) (fun hc => ?_) (fun hc => ?_)
          · replace hf := ineg hc hf
            refine lv_iload hx hb dX1_owesBy_94 (lv_at hl 7 rfl) ?_
            refine lv_iload hx hb dX1_owesBy_96 (lv_at hl 1 rfl) ?_
            refine lv_iload_n hx hb dX1_owesBy_98 rfl (lv_at hl 3 rfl) ?_
            refine lv_icmp_ne (tgt := 121) hx hb dX1_owesBy_99 (by decide) (fun hc => ?_) (fun hc => ?_)
            · replace hf := ineg hc hf
              exact hJ121 w33.2 x54 x66 w33.1 H locs ls hf hI  (lv_sub hl [2, 3, 4, 5, 6, 8, 1, 0] rfl)
            · replace hf := ipos hc hf
              refine lv_iload hx hb dX1_owesBy_102 (lv_at hl 0 rfl) ?_
              refine lv_iload_n hx hb dX1_owesBy_104 rfl (lv_at hl 4 rfl) ?_
              refine lv_icmp_ne (tgt := 121) hx hb dX1_owesBy_105 (by decide) (fun hc => ?_) (fun hc => ?_)
              · replace hf := ineg hc hf
                exact hJ121 w33.2 x54 x66 w33.1 H locs ls hf hI  (lv_sub hl [2, 3, 4, 5, 6, 8, 1, 0] rfl)
              · replace hf := ipos hc hf
                refine lv_aload_n hx hb dX1_owesBy_108 rfl (lv_at hl 2 rfl) ?_
                refine gget hx hb hts in_X1 hown hE.1.1 (hI.1.o 0 rfl) rfl 0 (by decide) q463 rfl dX1_owesBy_109 ?_
                refine ggetN hx hb hts in_X2 hown hE.1.1 (hI.1.w 0 (by decide) 0 rfl) rfl 19 (by decide) (hE.1.2.2.f 26 rfl) rfl dX1_owesBy_112 ?_
                refine lv_iload hx hb dX1_owesBy_115 (lv_at hl 8 rfl) ?_
                obtain ⟨x117, ex117, hf⟩ := obd hf
                refine gald hx hb hE.1.1 0 (hI.1.w 0 (by decide) 11 rfl) rfl ex117 dX1_owesBy_117 ?_
                refine lv_goto (tgt := 122) hx hb dX1_owesBy_118 (by decide) ?_
                exact hJ122 w33.2 x54 x66 x117 w33.1 H locs ls hf hI  (lv_sub hl [2, 3, 4, 5, 6, 8, 1, 0] rfl)
          · replace hf := ipos hc hf
            refine lv_goto (tgt := 156) hx hb dX1_owesBy_91 (by decide) ?_
            obtain ⟨v156_19, ev156_19, hf⟩ := obd hf
            refine lv_iinc (v := v156_19) (lv' := [(6, .int v156_19), (8, .int x66), (7, .int x54), (0, .ref o), (1, .int c1), (2, .int c2), (3, .int c3), (4, .int c4), (5, .int w33.1)]) hx hb dX1_owesBy_156 hl (k := 8) rfl (iiE ev156_19 (by decide)) (by decide) rfl (fun ls hl => ?_)
            refine lv_goto (tgt := 33) hx hb dX1_owesBy_159 (by decide) ?_
            exact hk _ (Option.some.inj hf).symm H locs ls hI (lv_sub hl [3, 4, 5, 6, 7, 8, 0] rfl)
  refine loopO_W (Wat := fun w33 => ∀ (H : Heap) (locs : List Loc) (ls : Array Slot), IC D J o Ld s H locs τ → lv_has ls 9 [(0, .ref o), (1, .int a1), (2, .int a2), (3, .int a3), (4, .int v25), (5, .int w33.1), (6, .int w33.2)] → W p l e ({ frames := 4, cells := 0, slots := 0, locals := 106 } : Room) s m args below meth c H locs 0 0 Q (F0 m 33 ls [])) (Wex := fun ex_ => ∀ (H : Heap) (locs : List Loc) (ls : Array Slot), IC D J o Ld s H locs τ → lv_has ls 9 [(5, .int ex_)] → W p l e ({ frames := 4, cells := 0, slots := 0, locals := 106 } : Room) s m args below meth c H locs 0 0 Q (F0 m 162 ls [])) (hs33 a1 a2 a3 v25) FU _ e33 he33 ?_ H locs ls hI (lv_sub hl [3, 4, 5, 6, 2, 1, 0] rfl)
  · skip
    intro H locs ls hI hl
    refine lv_iload hx hb dX1_owesBy_162 (lv_at hl 0 rfl) ?_
    have hf := Option.some.inj hf
    rw [hf]
    exact hret H locs 164 ls hI dX1_owesBy_164

theorem cwX1_owesBy_X1 {R : Room} {s : State} {args : Array Value} {fr lo : Nat} (hts : ∀ w ∈ lw_all, w.before args s = true) (hR : fr + 1 ≤ R.frames ∧ 8 + (9 + 11) + lo ≤ R.locals) : CallW R s args RX1 RX1 613 yX1_owesBy cX1_owesBy 9 (some .int) (ws_ yX1_owesBy cX1_owesBy 9 (some .int)) ({ frames := fr, cells := 0, slots := 0, locals := lo }) 0 0 3 :=
  cwV 3 hts (lw_V q757 q759 qs11 q133 q760) rfl rfl rfl (by decide +kernel) hR
def X1_owesNow (τ : Cs) (a1 : Int32) (a2 : Int32) : Option (Int32) :=
  (X1_owesBy τ a1 a2 (-1 : Int32)).bind fun x5 =>
  some (if (0 : Int32) < x5 then x5 else (0 : Int32))
set_option maxHeartbeats 4000000 in
theorem mX1_owesNow (Λ : Nat → Nat → (Nat → Int32) → Int32) (Λn : Nat → Int32) (τ : Cs) (a1 : Int32) (a2 : Int32) (r : Int32) (hf : X1_owesNow τ a1 a2 = some r) : CMi yX1_owesNow cX1_owesNow 3 (some .int) 5 134 Λ Λn (fun o aK aF => [.ref o, .int a1, .int a2]) r τ τ := by
  refine CMi.of (by decide) (fun _ _ _ => Nat.le_of_ble_eq_true rfl) ?_
  intro p l e s m args below meth c D J o z aK aV G Ld aF Q ls hx hb hml hown hts hE hret hI hl
  obtain ⟨H, eH⟩ : ∃ H, H = s.heap := ⟨_, rfl⟩
  obtain ⟨locs, eL⟩ : ∃ L : List Loc, L = [] := ⟨_, rfl⟩
  rw [← eH, ← eL] at hI ⊢
  have hown : s.vm.findClass RX1 = some m.cls := hown
  have hl : lv_has ls 3 [(0, .ref o), (1, .int a1), (2, .int a2)] := hl
  unfold X1_owesNow at hf
  refine lv_iconst (v := (0 : Int32)) hx hb dX1_owesNow_0 (by decide) ?_
  refine lv_aload_n hx hb dX1_owesNow_1 rfl (lv_at hl 0 rfl) ?_
  refine lv_iload_n hx hb dX1_owesNow_2 rfl (lv_at hl 1 rfl) ?_
  refine lv_iload_n hx hb dX1_owesNow_3 rfl (lv_at hl 2 rfl) ?_
  refine lv_iconst (v := (-1 : Int32)) hx hb dX1_owesNow_4 (by decide) ?_
  obtain ⟨x5, ex5, hf⟩ := obd hf
  refine ccallI (rest := [.int (0 : Int32)]) hx hb hts hown hE hI hml hl.1 (mX1_owesBy Λ Λn τ a1 a2 (-1 : Int32) _ ex5) (cwX1_owesBy_X1 hts ⟨Nat.le_of_ble_eq_true rfl, Nat.le_of_ble_eq_true rfl⟩) (hI.1.o 0 rfl) rfl rfl ⟨Nat.le_of_ble_eq_true rfl, Nat.le_of_ble_eq_true rfl⟩ rfl rfl (lv_room (Nat.le_of_ble_eq_true rfl)) dX1_owesNow_5 (fun H locs hI => ?_)
  refine va_mmax hx hb (hml.trans hl.1.symm) hown (hts _ q678) (hts _ q679) (hts _ q150) (hts _ q680) (Nat.le_of_ble_eq_true rfl) (Nat.le_of_ble_eq_true rfl) (Nat.le_of_ble_eq_true rfl) (Nat.le_of_ble_eq_true rfl) dX1_owesNow_8 ?_
  have hf := Option.some.inj hf
  rw [hf]
  exact hret H locs 11 ls hI dX1_owesNow_11

def X1_clearedBut_L21 (τ : Cs) (c1 : Int32) (c2 : Int32) (c3 : Int32) (w21 : Int32 × Int32) : Option ((Int32 × Int32) ⊕ (Int32)) :=
  if (cw τ 0 0 1) ≤ w21.2 then
    some (.inr w21.1)
  else
    if w21.2 = c3 then
      (some (w21.1 + (0 : Int32))).bind fun v54_4 =>
      (some (w21.2 + (1 : Int32))).bind fun v56_5 =>
      some (.inl (v54_4, v56_5))
    else
      (X1_owesBy τ c3 w21.2 c1).bind fun x50 =>
      (some (w21.1 + x50)).bind fun v54 =>
      (some (w21.2 + (1 : Int32))).bind fun v56 =>
      some (.inl (v54, v56))
def X1_clearedBut_L4 (τ : Cs) (c1 : Int32) (w4 : Int32 × Int32) : Option ((Int32 × Int32) ⊕ (Int32)) :=
  if (cw τ 0 0 1) ≤ w4.2 then
    some (.inr w4.1)
  else
    (loopO (X1_clearedBut_L21 τ c1 w4.1 w4.2) FU ((0 : Int32), (0 : Int32))).bind fun e21 =>
    (some (w4.1 + (if (0 : Int32) < e21 then e21 else (0 : Int32)))).bind fun v70 =>
    (some (w4.2 + (1 : Int32))).bind fun v71 =>
    some (.inl (v70, v71))
def X1_clearedBut (τ : Cs) (a1 : Int32) : Option (Int32) :=
  (loopO (X1_clearedBut_L4 τ a1) FU ((0 : Int32), (0 : Int32))).bind fun e4 =>
  some e4
set_option maxHeartbeats 4000000 in
theorem mX1_clearedBut (Λ : Nat → Nat → (Nat → Int32) → Int32) (Λn : Nat → Int32) (τ : Cs) (a1 : Int32) (r : Int32) (hf : X1_clearedBut τ a1 = some r) : CMi yX1_clearedBut cX1_clearedBut 6 (some .int) 5 134 Λ Λn (fun o aK aF => [.ref o, .int a1]) r τ τ := by
  refine CMi.of (by decide) (fun _ _ _ => Nat.le_of_ble_eq_true rfl) ?_
  intro p l e s m args below meth c D J o z aK aV G Ld aF Q ls hx hb hml hown hts hE hret hI hl
  obtain ⟨H, eH⟩ : ∃ H, H = s.heap := ⟨_, rfl⟩
  obtain ⟨locs, eL⟩ : ∃ L : List Loc, L = [] := ⟨_, rfl⟩
  rw [← eH, ← eL] at hI ⊢
  have hown : s.vm.findClass RX1 = some m.cls := hown
  have hl : lv_has ls 6 [(0, .ref o), (1, .int a1)] := hl
  unfold X1_clearedBut at hf
  refine lv_iconst (v := (0 : Int32)) hx hb dX1_clearedBut_0 (by decide) ?_
  refine lv_istore_n (lv' := [(2, .int (0 : Int32)), (0, .ref o), (1, .int a1)]) hx hb dX1_clearedBut_1 rfl hl (by decide) rfl (fun ls hl => ?_)
  refine lv_iconst (v := (0 : Int32)) hx hb dX1_clearedBut_2 (by decide) ?_
  refine lv_istore_n (lv' := [(3, .int (0 : Int32)), (2, .int (0 : Int32)), (0, .ref o), (1, .int a1)]) hx hb dX1_clearedBut_3 rfl hl (by decide) rfl (fun ls hl => ?_)
  obtain ⟨e4, he4, hf⟩ := obd hf
  have hs4 : ∀ (c1 : Int32), ∀ (w4 : Int32 × Int32) (o4 : (Int32 × Int32) ⊕ (Int32)), X1_clearedBut_L4 τ c1 w4 = some o4 → (∀ wx_, o4 = .inl wx_ → ∀ (H : Heap) (locs : List Loc) (ls : Array Slot), IC D J o Ld s H locs τ → lv_has ls 6 [(0, .ref o), (1, .int c1), (2, .int wx_.1), (3, .int wx_.2)] → W p l e ({ frames := 5, cells := 0, slots := 0, locals := 134 } : Room) s m args below meth c H locs 0 0 Q (F0 m 4 ls [])) → (∀ ex_, o4 = .inr ex_ → ∀ (H : Heap) (locs : List Loc) (ls : Array Slot), IC D J o Ld s H locs τ → lv_has ls 6 [(2, .int ex_)] → W p l e ({ frames := 5, cells := 0, slots := 0, locals := 134 } : Room) s m args below meth c H locs 0 0 Q (F0 m 77 ls [])) → ∀ (H : Heap) (locs : List Loc) (ls : Array Slot), IC D J o Ld s H locs τ → lv_has ls 6 [(0, .ref o), (1, .int c1), (2, .int w4.1), (3, .int w4.2)] → W p l e ({ frames := 5, cells := 0, slots := 0, locals := 134 } : Room) s m args below meth c H locs 0 0 Q (F0 m 4 ls []) := by
    intro c1 w4 o4 hf hk hq H locs ls hI hl
    unfold X1_clearedBut_L4 at hf
    refine lv_iload_n hx hb dX1_clearedBut_4 rfl (lv_at hl 3 rfl) ?_
    refine lv_aload_n hx hb dX1_clearedBut_5 rfl (lv_at hl 0 rfl) ?_
    refine gget hx hb hts in_X1 hown hE.1.1 (hI.1.o 0 rfl) rfl 0 (by decide) q463 rfl dX1_clearedBut_6 ?_
    refine ggetN hx hb hts in_X2 hown hE.1.1 (hI.1.w 0 (by decide) 0 rfl) rfl 1 (by decide) (hE.1.2.2.f 1 rfl) rfl dX1_clearedBut_9 ?_
    refine lv_icmp_ge (tgt := 77) hx hb dX1_clearedBut_12 (by decide) (fun hc => ?_) (fun hc => ?_)
    · replace hf := ipos hc hf
      exact hq _ (Option.some.inj hf).symm H locs ls hI (lv_sub hl [2] rfl)
    · replace hf := ineg hc hf
      refine lv_iconst (v := (0 : Int32)) hx hb dX1_clearedBut_15 (by decide) ?_
      refine lv_istore (lv' := [(4, .int (0 : Int32)), (0, .ref o), (1, .int c1), (2, .int w4.1), (3, .int w4.2)]) hx hb dX1_clearedBut_16 hl (by decide) rfl (fun ls hl => ?_)
      refine lv_iconst (v := (0 : Int32)) hx hb dX1_clearedBut_18 (by decide) ?_
      refine lv_istore (lv' := [(5, .int (0 : Int32)), (4, .int (0 : Int32)), (0, .ref o), (1, .int c1), (2, .int w4.1), (3, .int w4.2)]) hx hb dX1_clearedBut_19 hl (by decide) rfl (fun ls hl => ?_)
      obtain ⟨e21, he21, hf⟩ := obd hf
      have hs21 : ∀ (c1 : Int32) (c2 : Int32) (c3 : Int32), ∀ (w21 : Int32 × Int32) (o21 : (Int32 × Int32) ⊕ (Int32)), X1_clearedBut_L21 τ c1 c2 c3 w21 = some o21 → (∀ wx_, o21 = .inl wx_ → ∀ (H : Heap) (locs : List Loc) (ls : Array Slot), IC D J o Ld s H locs τ → lv_has ls 6 [(0, .ref o), (1, .int c1), (2, .int c2), (3, .int c3), (4, .int wx_.1), (5, .int wx_.2)] → W p l e ({ frames := 5, cells := 0, slots := 0, locals := 134 } : Room) s m args below meth c H locs 0 0 Q (F0 m 21 ls [])) → (∀ ex_, o21 = .inr ex_ → ∀ (H : Heap) (locs : List Loc) (ls : Array Slot), IC D J o Ld s H locs τ → lv_has ls 6 [(0, .ref o), (1, .int c1), (2, .int c2), (3, .int c3), (4, .int ex_)] → W p l e ({ frames := 5, cells := 0, slots := 0, locals := 134 } : Room) s m args below meth c H locs 0 0 Q (F0 m 62 ls [])) → ∀ (H : Heap) (locs : List Loc) (ls : Array Slot), IC D J o Ld s H locs τ → lv_has ls 6 [(0, .ref o), (1, .int c1), (2, .int c2), (3, .int c3), (4, .int w21.1), (5, .int w21.2)] → W p l e ({ frames := 5, cells := 0, slots := 0, locals := 134 } : Room) s m args below meth c H locs 0 0 Q (F0 m 21 ls []) := by
        intro c1 c2 c3 w21 o21 hf hk hq H locs ls hI hl
        unfold X1_clearedBut_L21 at hf
        refine lv_iload hx hb dX1_clearedBut_21 (lv_at hl 5 rfl) ?_
        refine lv_aload_n hx hb dX1_clearedBut_23 rfl (lv_at hl 0 rfl) ?_
        refine gget hx hb hts in_X1 hown hE.1.1 (hI.1.o 0 rfl) rfl 0 (by decide) q463 rfl dX1_clearedBut_24 ?_
        refine ggetN hx hb hts in_X2 hown hE.1.1 (hI.1.w 0 (by decide) 0 rfl) rfl 1 (by decide) (hE.1.2.2.f 1 rfl) rfl dX1_clearedBut_27 ?_
        refine lv_icmp_ge (tgt := 62) hx hb dX1_clearedBut_30 (by decide) (fun hc => ?_) (fun hc => ?_)
        · replace hf := ipos hc hf
          exact hq _ (Option.some.inj hf).symm H locs ls hI (lv_sub hl [0, 1, 2, 3, 4] rfl)
        · replace hf := ineg hc hf
          refine lv_iload hx hb dX1_clearedBut_33 (lv_at hl 4 rfl) ?_
          refine lv_iload hx hb dX1_clearedBut_35 (lv_at hl 5 rfl) ?_
          refine lv_iload_n hx hb dX1_clearedBut_37 rfl (lv_at hl 3 rfl) ?_
          refine lv_icmp_ne (tgt := 45) hx hb dX1_clearedBut_38 (by decide) (fun hc => ?_) (fun hc => ?_)
          · replace hf := ineg hc hf
            refine lv_aload_n hx hb dX1_clearedBut_45 rfl (lv_at hl 0 rfl) ?_
            refine lv_iload_n hx hb dX1_clearedBut_46 rfl (lv_at hl 3 rfl) ?_
            refine lv_iload hx hb dX1_clearedBut_47 (lv_at hl 5 rfl) ?_
            refine lv_iload_n hx hb dX1_clearedBut_49 rfl (lv_at hl 1 rfl) ?_
            obtain ⟨x50, ex50, hf⟩ := obd hf
            refine ccallI (rest := [.int w21.1]) hx hb hts hown hE hI hml hl.1 (mX1_owesBy Λ Λn τ c3 w21.2 c1 _ ex50) (cwX1_owesBy_X1 hts ⟨Nat.le_of_ble_eq_true rfl, Nat.le_of_ble_eq_true rfl⟩) (hI.1.o 0 rfl) rfl rfl ⟨Nat.le_of_ble_eq_true rfl, Nat.le_of_ble_eq_true rfl⟩ rfl rfl (lv_room (Nat.le_of_ble_eq_true rfl)) dX1_clearedBut_50 (fun H locs hI => ?_)
            refine lv_iadd hx hb dX1_clearedBut_53 ?_
            obtain ⟨v54, ev54, hf⟩ := obd hf
            refine nmI ev54 ?_
            refine lv_istore (lv' := [(4, .int v54), (0, .ref o), (1, .int c1), (2, .int c2), (3, .int c3), (5, .int w21.2)]) hx hb dX1_clearedBut_54 hl (by decide) rfl (fun ls hl => ?_)
            obtain ⟨v56, ev56, hf⟩ := obd hf
            refine lv_iinc (v := v56) (lv' := [(5, .int v56), (4, .int v54), (0, .ref o), (1, .int c1), (2, .int c2), (3, .int c3)]) hx hb dX1_clearedBut_56 hl (k := 5) rfl (iiE ev56 (by decide)) (by decide) rfl (fun ls hl => ?_)
            refine lv_goto (tgt := 21) hx hb dX1_clearedBut_59 (by decide) ?_
            exact hk _ (Option.some.inj hf).symm H locs ls hI (lv_sub hl [2, 3, 4, 5, 1, 0] rfl)
          · replace hf := ipos hc hf
            refine lv_iconst (v := (0 : Int32)) hx hb dX1_clearedBut_41 (by decide) ?_
            refine lv_goto (tgt := 53) hx hb dX1_clearedBut_42 (by decide) ?_
            refine lv_iadd hx hb dX1_clearedBut_53 ?_
            obtain ⟨v54_4, ev54_4, hf⟩ := obd hf
            refine nmI ev54_4 ?_
            refine lv_istore (lv' := [(4, .int v54_4), (0, .ref o), (1, .int c1), (2, .int c2), (3, .int c3), (5, .int w21.2)]) hx hb dX1_clearedBut_54 hl (by decide) rfl (fun ls hl => ?_)
            obtain ⟨v56_5, ev56_5, hf⟩ := obd hf
            refine lv_iinc (v := v56_5) (lv' := [(5, .int v56_5), (4, .int v54_4), (0, .ref o), (1, .int c1), (2, .int c2), (3, .int c3)]) hx hb dX1_clearedBut_56 hl (k := 5) rfl (iiE ev56_5 (by decide)) (by decide) rfl (fun ls hl => ?_)
            refine lv_goto (tgt := 21) hx hb dX1_clearedBut_59 (by decide) ?_
            exact hk _ (Option.some.inj hf).symm H locs ls hI (lv_sub hl [2, 3, 4, 5, 1, 0] rfl)
      refine loopO_W (Wat := fun w21 => ∀ (H : Heap) (locs : List Loc) (ls : Array Slot), IC D J o Ld s H locs τ → lv_has ls 6 [(0, .ref o), (1, .int c1), (2, .int w4.1), (3, .int w4.2), (4, .int w21.1), (5, .int w21.2)] → W p l e ({ frames := 5, cells := 0, slots := 0, locals := 134 } : Room) s m args below meth c H locs 0 0 Q (F0 m 21 ls [])) (Wex := fun ex_ => ∀ (H : Heap) (locs : List Loc) (ls : Array Slot), IC D J o Ld s H locs τ → lv_has ls 6 [(0, .ref o), (1, .int c1), (2, .int w4.1), (3, .int w4.2), (4, .int ex_)] → W p l e ({ frames := 5, cells := 0, slots := 0, locals := 134 } : Room) s m args below meth c H locs 0 0 Q (F0 m 62 ls [])) (hs21 c1 w4.1 w4.2) FU _ e21 he21 ?_ H locs ls hI (lv_sub hl [2, 3, 4, 5, 1, 0] rfl)
      · skip
        intro H locs ls hI hl
        refine lv_iload_n hx hb dX1_clearedBut_62 rfl (lv_at hl 2 rfl) ?_
        refine lv_iconst (v := (0 : Int32)) hx hb dX1_clearedBut_63 (by decide) ?_
        refine lv_iload hx hb dX1_clearedBut_64 (lv_at hl 4 rfl) ?_
        refine va_mmax hx hb (hml.trans hl.1.symm) hown (hts _ q678) (hts _ q679) (hts _ q150) (hts _ q680) (Nat.le_of_ble_eq_true rfl) (Nat.le_of_ble_eq_true rfl) (Nat.le_of_ble_eq_true rfl) (Nat.le_of_ble_eq_true rfl) dX1_clearedBut_66 ?_
        refine lv_iadd hx hb dX1_clearedBut_69 ?_
        obtain ⟨v70, ev70, hf⟩ := obd hf
        refine nmI ev70 ?_
        refine lv_istore_n (lv' := [(2, .int v70), (0, .ref o), (1, .int c1), (3, .int w4.2), (4, .int e21)]) hx hb dX1_clearedBut_70 rfl hl (by decide) rfl (fun ls hl => ?_)
        obtain ⟨v71, ev71, hf⟩ := obd hf
        refine lv_iinc (v := v71) (lv' := [(3, .int v71), (2, .int v70), (0, .ref o), (1, .int c1), (4, .int e21)]) hx hb dX1_clearedBut_71 hl (k := 3) rfl (iiE ev71 (by decide)) (by decide) rfl (fun ls hl => ?_)
        refine lv_goto (tgt := 4) hx hb dX1_clearedBut_74 (by decide) ?_
        exact hk _ (Option.some.inj hf).symm H locs ls hI (lv_sub hl [2, 3, 1, 0] rfl)
  refine loopO_W (Wat := fun w4 => ∀ (H : Heap) (locs : List Loc) (ls : Array Slot), IC D J o Ld s H locs τ → lv_has ls 6 [(0, .ref o), (1, .int a1), (2, .int w4.1), (3, .int w4.2)] → W p l e ({ frames := 5, cells := 0, slots := 0, locals := 134 } : Room) s m args below meth c H locs 0 0 Q (F0 m 4 ls [])) (Wex := fun ex_ => ∀ (H : Heap) (locs : List Loc) (ls : Array Slot), IC D J o Ld s H locs τ → lv_has ls 6 [(2, .int ex_)] → W p l e ({ frames := 5, cells := 0, slots := 0, locals := 134 } : Room) s m args below meth c H locs 0 0 Q (F0 m 77 ls [])) (hs4 a1) FU _ e4 he4 ?_ H locs ls hI (lv_sub hl [2, 3, 1, 0] rfl)
  · skip
    intro H locs ls hI hl
    refine lv_iload_n hx hb dX1_clearedBut_77 rfl (lv_at hl 0 rfl) ?_
    have hf := Option.some.inj hf
    rw [hf]
    exact hret H locs 78 ls hI dX1_clearedBut_78

theorem cwX1_clearedBut_X1 {R : Room} {s : State} {args : Array Value} {fr lo : Nat} (hts : ∀ w ∈ lw_all, w.before args s = true) (hR : fr + 1 ≤ R.frames ∧ 8 + (6 + 11) + lo ≤ R.locals) : CallW R s args RX1 RX1 623 yX1_clearedBut cX1_clearedBut 6 (some .int) (ws_ yX1_clearedBut cX1_clearedBut 6 (some .int)) ({ frames := fr, cells := 0, slots := 0, locals := lo }) 0 0 1 :=
  cwV 1 hts (lw_V q753 q755 qs10 q133 q756) rfl rfl rfl (by decide +kernel) hR
def X1_cleared (τ : Cs) : Option (Int32) :=
  (X1_clearedBut τ (-1 : Int32)).bind fun x2 =>
  some x2
set_option maxHeartbeats 4000000 in
theorem mX1_cleared (Λ : Nat → Nat → (Nat → Int32) → Int32) (Λn : Nat → Int32) (τ : Cs) (r : Int32) (hf : X1_cleared τ = some r) : CMi yX1_cleared cX1_cleared 1 (some .int) 6 159 Λ Λn (fun o aK aF => [.ref o]) r τ τ := by
  refine CMi.of (by decide) (fun _ _ _ => Nat.le_of_ble_eq_true rfl) ?_
  intro p l e s m args below meth c D J o z aK aV G Ld aF Q ls hx hb hml hown hts hE hret hI hl
  obtain ⟨H, eH⟩ : ∃ H, H = s.heap := ⟨_, rfl⟩
  obtain ⟨locs, eL⟩ : ∃ L : List Loc, L = [] := ⟨_, rfl⟩
  rw [← eH, ← eL] at hI ⊢
  have hown : s.vm.findClass RX1 = some m.cls := hown
  have hl : lv_has ls 1 [(0, .ref o)] := hl
  unfold X1_cleared at hf
  refine lv_aload_n hx hb dX1_cleared_0 rfl (lv_at hl 0 rfl) ?_
  refine lv_iconst (v := (-1 : Int32)) hx hb dX1_cleared_1 (by decide) ?_
  obtain ⟨x2, ex2, hf⟩ := obd hf
  refine ccallI (rest := []) hx hb hts hown hE hI hml hl.1 (mX1_clearedBut Λ Λn τ (-1 : Int32) _ ex2) (cwX1_clearedBut_X1 hts ⟨Nat.le_of_ble_eq_true rfl, Nat.le_of_ble_eq_true rfl⟩) (hI.1.o 0 rfl) rfl rfl ⟨Nat.le_of_ble_eq_true rfl, Nat.le_of_ble_eq_true rfl⟩ rfl rfl (lv_room (Nat.le_of_ble_eq_true rfl)) dX1_cleared_2 (fun H locs hI => ?_)
  have hf := Option.some.inj hf
  rw [hf]
  exact hret H locs 5 ls hI dX1_cleared_5

theorem cwX1_owesNow_X1 {R : Room} {s : State} {args : Array Value} {fr lo : Nat} (hts : ∀ w ∈ lw_all, w.before args s = true) (hR : fr + 1 ≤ R.frames ∧ 8 + (3 + 11) + lo ≤ R.locals) : CallW R s args RX1 RX1 620 yX1_owesNow cX1_owesNow 3 (some .int) (ws_ yX1_owesNow cX1_owesNow 3 (some .int)) ({ frames := fr, cells := 0, slots := 0, locals := lo }) 0 0 2 :=
  cwV 2 hts (lw_V q1984 q1986 qs53 q133 q1987) rfl rfl rfl (by decide +kernel) hR
def X1_debtorsOf_L18 (τ : Cs) (c1 : Int32) (c3 : Int32) (w18 : Int32 × Int32) : Option ((Int32 × Int32) ⊕ (Int32)) :=
  if (cw τ 0 0 1) ≤ w18.2 then
    some (.inr w18.1)
  else
    if c3 = w18.2 then
      (some (w18.1 ||| (0 : Int32))).bind fun v64 =>
      (some (w18.2 + (1 : Int32))).bind fun v65 =>
      some (.inl (v64, v65))
    else
      (X1_has c1 c3).bind fun x39 =>
      if x39 = (0 : Int32) then
        (some (w18.1 ||| (0 : Int32))).bind fun v64_4 =>
        (some (w18.2 + (1 : Int32))).bind fun v65_5 =>
        some (.inl (v64_4, v65_5))
      else
        (X1_owesNow τ c3 w18.2).bind fun x49 =>
        if x49 ≤ (0 : Int32) then
          (some (w18.1 ||| (0 : Int32))).bind fun v64_7 =>
          (some (w18.2 + (1 : Int32))).bind fun v65_8 =>
          some (.inl (v64_7, v65_8))
        else
          (some (w18.1 ||| ((1 : Int32) <<< (w18.2 &&& (31 : Int32))))).bind fun v64_9 =>
          (some (w18.2 + (1 : Int32))).bind fun v65_10 =>
          some (.inl (v64_9, v65_10))
def X1_debtorsOf_L4 (τ : Cs) (c1 : Int32) (w4 : Int32 × Int32) : Option ((Int32 × Int32) ⊕ (Int32)) :=
  if (cw τ 0 0 1) ≤ w4.2 then
    some (.inr w4.1)
  else
    (loopO (X1_debtorsOf_L18 τ c1 w4.2) FU (w4.1, (0 : Int32))).bind fun e18 =>
    (some (w4.2 + (1 : Int32))).bind fun v71 =>
    some (.inl (e18, v71))
def X1_debtorsOf (τ : Cs) (a1 : Int32) : Option (Int32) :=
  (loopO (X1_debtorsOf_L4 τ a1) FU ((0 : Int32), (0 : Int32))).bind fun e4 =>
  some e4
set_option maxHeartbeats 4000000 in
theorem mX1_debtorsOf (Λ : Nat → Nat → (Nat → Int32) → Int32) (Λn : Nat → Int32) (τ : Cs) (a1 : Int32) (r : Int32) (hf : X1_debtorsOf τ a1 = some r) : CMi yX1_debtorsOf cX1_debtorsOf 5 (some .int) 6 156 Λ Λn (fun o aK aF => [.ref o, .int a1]) r τ τ := by
  refine CMi.of (by decide) (fun _ _ _ => Nat.le_of_ble_eq_true rfl) ?_
  intro p l e s m args below meth c D J o z aK aV G Ld aF Q ls hx hb hml hown hts hE hret hI hl
  obtain ⟨H, eH⟩ : ∃ H, H = s.heap := ⟨_, rfl⟩
  obtain ⟨locs, eL⟩ : ∃ L : List Loc, L = [] := ⟨_, rfl⟩
  rw [← eH, ← eL] at hI ⊢
  have hown : s.vm.findClass RX1 = some m.cls := hown
  have hl : lv_has ls 5 [(0, .ref o), (1, .int a1)] := hl
  unfold X1_debtorsOf at hf
  refine lv_iconst (v := (0 : Int32)) hx hb dX1_debtorsOf_0 (by decide) ?_
  refine lv_istore_n (lv' := [(2, .int (0 : Int32)), (0, .ref o), (1, .int a1)]) hx hb dX1_debtorsOf_1 rfl hl (by decide) rfl (fun ls hl => ?_)
  refine lv_iconst (v := (0 : Int32)) hx hb dX1_debtorsOf_2 (by decide) ?_
  refine lv_istore_n (lv' := [(3, .int (0 : Int32)), (2, .int (0 : Int32)), (0, .ref o), (1, .int a1)]) hx hb dX1_debtorsOf_3 rfl hl (by decide) rfl (fun ls hl => ?_)
  obtain ⟨e4, he4, hf⟩ := obd hf
  have hs4 : ∀ (c1 : Int32), ∀ (w4 : Int32 × Int32) (o4 : (Int32 × Int32) ⊕ (Int32)), X1_debtorsOf_L4 τ c1 w4 = some o4 → (∀ wx_, o4 = .inl wx_ → ∀ (H : Heap) (locs : List Loc) (ls : Array Slot), IC D J o Ld s H locs τ → lv_has ls 5 [(0, .ref o), (1, .int c1), (2, .int wx_.1), (3, .int wx_.2)] → W p l e ({ frames := 6, cells := 0, slots := 0, locals := 156 } : Room) s m args below meth c H locs 0 0 Q (F0 m 4 ls [])) → (∀ ex_, o4 = .inr ex_ → ∀ (H : Heap) (locs : List Loc) (ls : Array Slot), IC D J o Ld s H locs τ → lv_has ls 5 [(2, .int ex_)] → W p l e ({ frames := 6, cells := 0, slots := 0, locals := 156 } : Room) s m args below meth c H locs 0 0 Q (F0 m 77 ls [])) → ∀ (H : Heap) (locs : List Loc) (ls : Array Slot), IC D J o Ld s H locs τ → lv_has ls 5 [(0, .ref o), (1, .int c1), (2, .int w4.1), (3, .int w4.2)] → W p l e ({ frames := 6, cells := 0, slots := 0, locals := 156 } : Room) s m args below meth c H locs 0 0 Q (F0 m 4 ls []) := by
    intro c1 w4 o4 hf hk hq H locs ls hI hl
    unfold X1_debtorsOf_L4 at hf
    refine lv_iload_n hx hb dX1_debtorsOf_4 rfl (lv_at hl 3 rfl) ?_
    refine lv_aload_n hx hb dX1_debtorsOf_5 rfl (lv_at hl 0 rfl) ?_
    refine gget hx hb hts in_X1 hown hE.1.1 (hI.1.o 0 rfl) rfl 0 (by decide) q463 rfl dX1_debtorsOf_6 ?_
    refine ggetN hx hb hts in_X2 hown hE.1.1 (hI.1.w 0 (by decide) 0 rfl) rfl 1 (by decide) (hE.1.2.2.f 1 rfl) rfl dX1_debtorsOf_9 ?_
    refine lv_icmp_ge (tgt := 77) hx hb dX1_debtorsOf_12 (by decide) (fun hc => ?_) (fun hc => ?_)
    · replace hf := ipos hc hf
      exact hq _ (Option.some.inj hf).symm H locs ls hI (lv_sub hl [2] rfl)
    · replace hf := ineg hc hf
      refine lv_iconst (v := (0 : Int32)) hx hb dX1_debtorsOf_15 (by decide) ?_
      refine lv_istore (lv' := [(4, .int (0 : Int32)), (0, .ref o), (1, .int c1), (2, .int w4.1), (3, .int w4.2)]) hx hb dX1_debtorsOf_16 hl (by decide) rfl (fun ls hl => ?_)
      obtain ⟨e18, he18, hf⟩ := obd hf
      have hs18 : ∀ (c1 : Int32) (c3 : Int32), ∀ (w18 : Int32 × Int32) (o18 : (Int32 × Int32) ⊕ (Int32)), X1_debtorsOf_L18 τ c1 c3 w18 = some o18 → (∀ wx_, o18 = .inl wx_ → ∀ (H : Heap) (locs : List Loc) (ls : Array Slot), IC D J o Ld s H locs τ → lv_has ls 5 [(0, .ref o), (1, .int c1), (2, .int wx_.1), (3, .int c3), (4, .int wx_.2)] → W p l e ({ frames := 6, cells := 0, slots := 0, locals := 156 } : Room) s m args below meth c H locs 0 0 Q (F0 m 18 ls [])) → (∀ ex_, o18 = .inr ex_ → ∀ (H : Heap) (locs : List Loc) (ls : Array Slot), IC D J o Ld s H locs τ → lv_has ls 5 [(0, .ref o), (1, .int c1), (2, .int ex_), (3, .int c3)] → W p l e ({ frames := 6, cells := 0, slots := 0, locals := 156 } : Room) s m args below meth c H locs 0 0 Q (F0 m 71 ls [])) → ∀ (H : Heap) (locs : List Loc) (ls : Array Slot), IC D J o Ld s H locs τ → lv_has ls 5 [(0, .ref o), (1, .int c1), (2, .int w18.1), (3, .int c3), (4, .int w18.2)] → W p l e ({ frames := 6, cells := 0, slots := 0, locals := 156 } : Room) s m args below meth c H locs 0 0 Q (F0 m 18 ls []) := by
        intro c1 c3 w18 o18 hf hk hq H locs ls hI hl
        unfold X1_debtorsOf_L18 at hf
        refine lv_iload hx hb dX1_debtorsOf_18 (lv_at hl 4 rfl) ?_
        refine lv_aload_n hx hb dX1_debtorsOf_20 rfl (lv_at hl 0 rfl) ?_
        refine gget hx hb hts in_X1 hown hE.1.1 (hI.1.o 0 rfl) rfl 0 (by decide) q463 rfl dX1_debtorsOf_21 ?_
        refine ggetN hx hb hts in_X2 hown hE.1.1 (hI.1.w 0 (by decide) 0 rfl) rfl 1 (by decide) (hE.1.2.2.f 1 rfl) rfl dX1_debtorsOf_24 ?_
        refine lv_icmp_ge (tgt := 71) hx hb dX1_debtorsOf_27 (by decide) (fun hc => ?_) (fun hc => ?_)
        · replace hf := ipos hc hf
          exact hq _ (Option.some.inj hf).symm H locs ls hI (lv_sub hl [0, 1, 2, 3] rfl)
        · replace hf := ineg hc hf
          refine lv_iload_n hx hb dX1_debtorsOf_30 rfl (lv_at hl 2 rfl) ?_
          refine lv_iload_n hx hb dX1_debtorsOf_31 rfl (lv_at hl 3 rfl) ?_
          refine lv_iload hx hb dX1_debtorsOf_32 (lv_at hl 4 rfl) ?_
          refine lv_icmp_eq (tgt := 62) hx hb dX1_debtorsOf_34 (by decide) (fun hc => ?_) (fun hc => ?_)
          · replace hf := ipos hc hf
            refine lv_iconst (v := (0 : Int32)) hx hb dX1_debtorsOf_62 (by decide) ?_
            refine lv_ior hx hb dX1_debtorsOf_63 ?_
            obtain ⟨v64, ev64, hf⟩ := obd hf
            refine nmI ev64 ?_
            refine lv_istore_n (lv' := [(2, .int v64), (0, .ref o), (1, .int c1), (3, .int c3), (4, .int w18.2)]) hx hb dX1_debtorsOf_64 rfl hl (by decide) rfl (fun ls hl => ?_)
            obtain ⟨v65, ev65, hf⟩ := obd hf
            refine lv_iinc (v := v65) (lv' := [(4, .int v65), (2, .int v64), (0, .ref o), (1, .int c1), (3, .int c3)]) hx hb dX1_debtorsOf_65 hl (k := 4) rfl (iiE ev65 (by decide)) (by decide) rfl (fun ls hl => ?_)
            refine lv_goto (tgt := 18) hx hb dX1_debtorsOf_68 (by decide) ?_
            exact hk _ (Option.some.inj hf).symm H locs ls hI (lv_sub hl [2, 3, 1, 4, 0] rfl)
          · replace hf := ineg hc hf
            refine lv_iload_n hx hb dX1_debtorsOf_37 rfl (lv_at hl 1 rfl) ?_
            refine lv_iload_n hx hb dX1_debtorsOf_38 rfl (lv_at hl 3 rfl) ?_
            obtain ⟨x39, ex39, hf⟩ := obd hf
            refine tcallS (rest := [.int w18.1]) hx hb hts hown hml hl.1 (mX1_has c1 c3 _ ex39) (csX1_has_X1 hts ⟨Nat.le_of_ble_eq_true rfl, Nat.le_of_ble_eq_true rfl⟩) ⟨Nat.le_of_ble_eq_true rfl, Nat.le_of_ble_eq_true rfl⟩ rfl rfl (lv_room (Nat.le_of_ble_eq_true rfl)) dX1_debtorsOf_39 ?_
            refine lv_if_eq (tgt := 62) hx hb dX1_debtorsOf_42 (by decide) (fun hc => ?_) (fun hc => ?_)
            · replace hf := ipos hc hf
              refine lv_iconst (v := (0 : Int32)) hx hb dX1_debtorsOf_62 (by decide) ?_
              refine lv_ior hx hb dX1_debtorsOf_63 ?_
              obtain ⟨v64_4, ev64_4, hf⟩ := obd hf
              refine nmI ev64_4 ?_
              refine lv_istore_n (lv' := [(2, .int v64_4), (0, .ref o), (1, .int c1), (3, .int c3), (4, .int w18.2)]) hx hb dX1_debtorsOf_64 rfl hl (by decide) rfl (fun ls hl => ?_)
              obtain ⟨v65_5, ev65_5, hf⟩ := obd hf
              refine lv_iinc (v := v65_5) (lv' := [(4, .int v65_5), (2, .int v64_4), (0, .ref o), (1, .int c1), (3, .int c3)]) hx hb dX1_debtorsOf_65 hl (k := 4) rfl (iiE ev65_5 (by decide)) (by decide) rfl (fun ls hl => ?_)
              refine lv_goto (tgt := 18) hx hb dX1_debtorsOf_68 (by decide) ?_
              exact hk _ (Option.some.inj hf).symm H locs ls hI (lv_sub hl [2, 3, 1, 4, 0] rfl)
            · replace hf := ineg hc hf
              refine lv_aload_n hx hb dX1_debtorsOf_45 rfl (lv_at hl 0 rfl) ?_
              refine lv_iload_n hx hb dX1_debtorsOf_46 rfl (lv_at hl 3 rfl) ?_
              refine lv_iload hx hb dX1_debtorsOf_47 (lv_at hl 4 rfl) ?_
              obtain ⟨x49, ex49, hf⟩ := obd hf
              refine ccallI (rest := [.int w18.1]) hx hb hts hown hE hI hml hl.1 (mX1_owesNow Λ Λn τ c3 w18.2 _ ex49) (cwX1_owesNow_X1 hts ⟨Nat.le_of_ble_eq_true rfl, Nat.le_of_ble_eq_true rfl⟩) (hI.1.o 0 rfl) rfl rfl ⟨Nat.le_of_ble_eq_true rfl, Nat.le_of_ble_eq_true rfl⟩ rfl rfl (lv_room (Nat.le_of_ble_eq_true rfl)) dX1_debtorsOf_49 (fun H locs hI => ?_)
              refine lv_if_le (tgt := 62) hx hb dX1_debtorsOf_52 (by decide) (fun hc => ?_) (fun hc => ?_)
              · replace hf := ipos hc hf
                refine lv_iconst (v := (0 : Int32)) hx hb dX1_debtorsOf_62 (by decide) ?_
                refine lv_ior hx hb dX1_debtorsOf_63 ?_
                obtain ⟨v64_7, ev64_7, hf⟩ := obd hf
                refine nmI ev64_7 ?_
                refine lv_istore_n (lv' := [(2, .int v64_7), (0, .ref o), (1, .int c1), (3, .int c3), (4, .int w18.2)]) hx hb dX1_debtorsOf_64 rfl hl (by decide) rfl (fun ls hl => ?_)
                obtain ⟨v65_8, ev65_8, hf⟩ := obd hf
                refine lv_iinc (v := v65_8) (lv' := [(4, .int v65_8), (2, .int v64_7), (0, .ref o), (1, .int c1), (3, .int c3)]) hx hb dX1_debtorsOf_65 hl (k := 4) rfl (iiE ev65_8 (by decide)) (by decide) rfl (fun ls hl => ?_)
                refine lv_goto (tgt := 18) hx hb dX1_debtorsOf_68 (by decide) ?_
                exact hk _ (Option.some.inj hf).symm H locs ls hI (lv_sub hl [2, 3, 1, 4, 0] rfl)
              · replace hf := ineg hc hf
                refine lv_iconst (v := (1 : Int32)) hx hb dX1_debtorsOf_55 (by decide) ?_
                refine lv_iload hx hb dX1_debtorsOf_56 (lv_at hl 4 rfl) ?_
                refine lv_ishl hx hb dX1_debtorsOf_58 ?_
                refine lv_goto (tgt := 63) hx hb dX1_debtorsOf_59 (by decide) ?_
                refine lv_ior hx hb dX1_debtorsOf_63 ?_
                obtain ⟨v64_9, ev64_9, hf⟩ := obd hf
                refine nmI ev64_9 ?_
                refine lv_istore_n (lv' := [(2, .int v64_9), (0, .ref o), (1, .int c1), (3, .int c3), (4, .int w18.2)]) hx hb dX1_debtorsOf_64 rfl hl (by decide) rfl (fun ls hl => ?_)
                obtain ⟨v65_10, ev65_10, hf⟩ := obd hf
                refine lv_iinc (v := v65_10) (lv' := [(4, .int v65_10), (2, .int v64_9), (0, .ref o), (1, .int c1), (3, .int c3)]) hx hb dX1_debtorsOf_65 hl (k := 4) rfl (iiE ev65_10 (by decide)) (by decide) rfl (fun ls hl => ?_)
                refine lv_goto (tgt := 18) hx hb dX1_debtorsOf_68 (by decide) ?_
                exact hk _ (Option.some.inj hf).symm H locs ls hI (lv_sub hl [2, 3, 1, 4, 0] rfl)
      refine loopO_W (Wat := fun w18 => ∀ (H : Heap) (locs : List Loc) (ls : Array Slot), IC D J o Ld s H locs τ → lv_has ls 5 [(0, .ref o), (1, .int c1), (2, .int w18.1), (3, .int w4.2), (4, .int w18.2)] → W p l e ({ frames := 6, cells := 0, slots := 0, locals := 156 } : Room) s m args below meth c H locs 0 0 Q (F0 m 18 ls [])) (Wex := fun ex_ => ∀ (H : Heap) (locs : List Loc) (ls : Array Slot), IC D J o Ld s H locs τ → lv_has ls 5 [(0, .ref o), (1, .int c1), (2, .int ex_), (3, .int w4.2)] → W p l e ({ frames := 6, cells := 0, slots := 0, locals := 156 } : Room) s m args below meth c H locs 0 0 Q (F0 m 71 ls [])) (hs18 c1 w4.2) FU _ e18 he18 ?_ H locs ls hI (lv_sub hl [1, 2, 3, 4, 0] rfl)
      · skip
        intro H locs ls hI hl
        obtain ⟨v71, ev71, hf⟩ := obd hf
        refine lv_iinc (v := v71) (lv' := [(3, .int v71), (0, .ref o), (1, .int c1), (2, .int e18)]) hx hb dX1_debtorsOf_71 hl (k := 3) rfl (iiE ev71 (by decide)) (by decide) rfl (fun ls hl => ?_)
        refine lv_goto (tgt := 4) hx hb dX1_debtorsOf_74 (by decide) ?_
        exact hk _ (Option.some.inj hf).symm H locs ls hI (lv_sub hl [1, 2, 3, 0] rfl)
  refine loopO_W (Wat := fun w4 => ∀ (H : Heap) (locs : List Loc) (ls : Array Slot), IC D J o Ld s H locs τ → lv_has ls 5 [(0, .ref o), (1, .int a1), (2, .int w4.1), (3, .int w4.2)] → W p l e ({ frames := 6, cells := 0, slots := 0, locals := 156 } : Room) s m args below meth c H locs 0 0 Q (F0 m 4 ls [])) (Wex := fun ex_ => ∀ (H : Heap) (locs : List Loc) (ls : Array Slot), IC D J o Ld s H locs τ → lv_has ls 5 [(2, .int ex_)] → W p l e ({ frames := 6, cells := 0, slots := 0, locals := 156 } : Room) s m args below meth c H locs 0 0 Q (F0 m 77 ls [])) (hs4 a1) FU _ e4 he4 ?_ H locs ls hI (lv_sub hl [2, 3, 1, 0] rfl)
  · skip
    intro H locs ls hI hl
    refine lv_iload_n hx hb dX1_debtorsOf_77 rfl (lv_at hl 0 rfl) ?_
    have hf := Option.some.inj hf
    rw [hf]
    exact hret H locs 78 ls hI dX1_debtorsOf_78

def X1_pivot_L8 (τ : Cs) (w8 : Int32 × Int32 × Int32) : Option ((Int32 × Int32 × Int32) ⊕ (Int32)) :=
  if (cw τ 0 0 1) ≤ w8.2.2 then
    some (.inr w8.1)
  else
    (X1_clearedBut τ w8.2.2).bind fun x21 =>
    if x21 < w8.2.1 then
      (some (w8.2.2 + (1 : Int32))).bind fun v40 =>
      some (.inl (w8.2.2, x21, v40))
    else
      (some (w8.2.2 + (1 : Int32))).bind fun v40_3 =>
      some (.inl (w8.1, w8.2.1, v40_3))
def X1_pivot (τ : Cs) : Option (Int32) :=
  (loopO (X1_pivot_L8 τ) FU ((-1 : Int32), (100000000 : Int32), (0 : Int32))).bind fun e8 =>
  some e8
set_option maxHeartbeats 4000000 in
theorem mX1_pivot (Λ : Nat → Nat → (Nat → Int32) → Int32) (Λn : Nat → Int32) (τ : Cs) (r : Int32) (hf : X1_pivot τ = some r) : CMi yX1_pivot cX1_pivot 5 (some .int) 6 159 Λ Λn (fun o aK aF => [.ref o]) r τ τ := by
  refine CMi.of (by decide) (fun _ _ _ => Nat.le_of_ble_eq_true rfl) ?_
  intro p l e s m args below meth c D J o z aK aV G Ld aF Q ls hx hb hml hown hts hE hret hI hl
  obtain ⟨H, eH⟩ : ∃ H, H = s.heap := ⟨_, rfl⟩
  obtain ⟨locs, eL⟩ : ∃ L : List Loc, L = [] := ⟨_, rfl⟩
  rw [← eH, ← eL] at hI ⊢
  have hown : s.vm.findClass RX1 = some m.cls := hown
  have hl : lv_has ls 5 [(0, .ref o)] := hl
  unfold X1_pivot at hf
  refine lv_iconst (v := (-1 : Int32)) hx hb dX1_pivot_0 (by decide) ?_
  refine lv_istore_n (lv' := [(1, .int (-1 : Int32)), (0, .ref o)]) hx hb dX1_pivot_1 rfl hl (by decide) rfl (fun ls hl => ?_)
  refine lv_ldcw hx hb hown (hts _ q769) dX1_pivot_2 ?_
  refine lv_istore_n (lv' := [(2, .int (100000000 : Int32)), (1, .int (-1 : Int32)), (0, .ref o)]) hx hb dX1_pivot_5 rfl hl (by decide) rfl (fun ls hl => ?_)
  refine lv_iconst (v := (0 : Int32)) hx hb dX1_pivot_6 (by decide) ?_
  refine lv_istore_n (lv' := [(3, .int (0 : Int32)), (2, .int (100000000 : Int32)), (1, .int (-1 : Int32)), (0, .ref o)]) hx hb dX1_pivot_7 rfl hl (by decide) rfl (fun ls hl => ?_)
  obtain ⟨e8, he8, hf⟩ := obd hf
  refine loopO_W (Wat := fun w8 => ∀ (H : Heap) (locs : List Loc) (ls : Array Slot), IC D J o Ld s H locs τ → lv_has ls 5 [(0, .ref o), (1, .int w8.1), (2, .int w8.2.1), (3, .int w8.2.2)] → W p l e ({ frames := 6, cells := 0, slots := 0, locals := 159 } : Room) s m args below meth c H locs 0 0 Q (F0 m 8 ls [])) (Wex := fun ex_ => ∀ (H : Heap) (locs : List Loc) (ls : Array Slot), IC D J o Ld s H locs τ → lv_has ls 5 [(1, .int ex_)] → W p l e ({ frames := 6, cells := 0, slots := 0, locals := 159 } : Room) s m args below meth c H locs 0 0 Q (F0 m 46 ls [])) (fun w8 o8 hf hk hq => ?_) FU _ e8 he8 ?_ H locs ls hI (lv_sub hl [3, 2, 1, 0] rfl)
  · intro H locs ls hI hl
    unfold X1_pivot_L8 at hf
    refine lv_iload_n hx hb dX1_pivot_8 rfl (lv_at hl 3 rfl) ?_
    refine lv_aload_n hx hb dX1_pivot_9 rfl (lv_at hl 0 rfl) ?_
    refine gget hx hb hts in_X1 hown hE.1.1 (hI.1.o 0 rfl) rfl 0 (by decide) q463 rfl dX1_pivot_10 ?_
    refine ggetN hx hb hts in_X2 hown hE.1.1 (hI.1.w 0 (by decide) 0 rfl) rfl 1 (by decide) (hE.1.2.2.f 1 rfl) rfl dX1_pivot_13 ?_
    refine lv_icmp_ge (tgt := 46) hx hb dX1_pivot_16 (by decide) (fun hc => ?_) (fun hc => ?_)
    · replace hf := ipos hc hf
      exact hq _ (Option.some.inj hf).symm H locs ls hI (lv_sub hl [1] rfl)
    · replace hf := ineg hc hf
      refine lv_aload_n hx hb dX1_pivot_19 rfl (lv_at hl 0 rfl) ?_
      refine lv_iload_n hx hb dX1_pivot_20 rfl (lv_at hl 3 rfl) ?_
      obtain ⟨x21, ex21, hf⟩ := obd hf
      refine ccallI (rest := []) hx hb hts hown hE hI hml hl.1 (mX1_clearedBut Λ Λn τ w8.2.2 _ ex21) (cwX1_clearedBut_X1 hts ⟨Nat.le_of_ble_eq_true rfl, Nat.le_of_ble_eq_true rfl⟩) (hI.1.o 0 rfl) rfl rfl ⟨Nat.le_of_ble_eq_true rfl, Nat.le_of_ble_eq_true rfl⟩ rfl rfl (lv_room (Nat.le_of_ble_eq_true rfl)) dX1_pivot_21 (fun H locs hI => ?_)
      refine lv_istore (lv' := [(4, .int x21), (0, .ref o), (1, .int w8.1), (2, .int w8.2.1), (3, .int w8.2.2)]) hx hb dX1_pivot_24 hl (by decide) rfl (fun ls hl => ?_)
      refine lv_iload hx hb dX1_pivot_26 (lv_at hl 0 rfl) ?_
      refine lv_iload_n hx hb dX1_pivot_28 rfl (lv_at hl 3 rfl) ?_
      refine lv_icmp_lt (tgt := 35) hx hb dX1_pivot_29 (by decide) (fun hc => ?_) (fun hc => ?_)
      · replace hf := ipos hc hf
        refine lv_iload_n hx hb dX1_pivot_35 rfl (lv_at hl 4 rfl) ?_
        refine lv_istore_n (lv' := [(1, .int w8.2.2), (4, .int x21), (0, .ref o), (2, .int w8.2.1), (3, .int w8.2.2)]) hx hb dX1_pivot_36 rfl hl (by decide) rfl (fun ls hl => ?_)
        refine lv_iload hx hb dX1_pivot_37 (lv_at hl 1 rfl) ?_
        refine lv_istore_n (lv' := [(2, .int x21), (1, .int w8.2.2), (4, .int x21), (0, .ref o), (3, .int w8.2.2)]) hx hb dX1_pivot_39 rfl hl (by decide) rfl (fun ls hl => ?_)
        obtain ⟨v40, ev40, hf⟩ := obd hf
        refine lv_iinc (v := v40) (lv' := [(3, .int v40), (2, .int x21), (1, .int w8.2.2), (4, .int x21), (0, .ref o)]) hx hb dX1_pivot_40 hl (k := 4) rfl (iiE ev40 (by decide)) (by decide) rfl (fun ls hl => ?_)
        refine lv_goto (tgt := 8) hx hb dX1_pivot_43 (by decide) ?_
        exact hk _ (Option.some.inj hf).symm H locs ls hI (lv_sub hl [4, 2, 1, 0] rfl)
      · replace hf := ineg hc hf
        refine lv_goto (tgt := 40) hx hb dX1_pivot_32 (by decide) ?_
        obtain ⟨v40_3, ev40_3, hf⟩ := obd hf
        refine lv_iinc (v := v40_3) (lv' := [(3, .int v40_3), (4, .int x21), (0, .ref o), (1, .int w8.1), (2, .int w8.2.1)]) hx hb dX1_pivot_40 hl (k := 4) rfl (iiE ev40_3 (by decide)) (by decide) rfl (fun ls hl => ?_)
        refine lv_goto (tgt := 8) hx hb dX1_pivot_43 (by decide) ?_
        exact hk _ (Option.some.inj hf).symm H locs ls hI (lv_sub hl [2, 3, 4, 0] rfl)
  · skip
    intro H locs ls hI hl
    refine lv_iload_n hx hb dX1_pivot_46 rfl (lv_at hl 0 rfl) ?_
    have hf := Option.some.inj hf
    rw [hf]
    exact hret H locs 47 ls hI dX1_pivot_47

theorem csX1_soldAt_X1 {R : Room} {s : State} {args : Array Value} {fr lo : Nat} (hts : ∀ w ∈ lw_all, w.before args s = true) (hR : fr + 1 ≤ R.frames ∧ 8 + (2 + 11) + lo ≤ R.locals) : CallB R s args RX1 630 yX1_soldAt cX1_soldAt 2 (some .int) (ws_ yX1_soldAt cX1_soldAt 2 (some .int)) ({ frames := fr, cells := 0, slots := 0, locals := lo }) 0 0 2 ∧ (Cond.static yX1_soldAt).before args s = true :=
  va_cwS 2 hts (lw_S q2014 q2015 q133 q2016) rfl rfl rfl (by decide +kernel) hR
def X1_soldBy_J87 (τ : Cs) (a1 : Int32) (a2 : Int32) (a3 : Int32) (y0 : Int32) : Option (Int32) :=
  if y0 = (0 : Int32) then
    some (-1 : Int32)
  else
    (ld 8 (co τ 7) a1).bind fun x99 =>
    (X1_soldAt (a1 + (1 : Int32)) (a2 ||| ((1 : Int32) <<< (a3 &&& (31 : Int32))))).bind fun x112 =>
    (ld 576 (co τ 8) x112).bind fun x115 =>
    some (x99 + x115)
def X1_soldBy_J86 (τ : Cs) (a1 : Int32) (a2 : Int32) (a3 : Int32) : Option (Int32) :=
  X1_soldBy_J87 τ a1 a2 a3 (0 : Int32)
def X1_soldBy (τ : Cs) (a1 : Int32) (a2 : Int32) (a3 : Int32) : Option (Int32) :=
  if a3 = (-1 : Int32) then
    (X1_soldAt (a1 + (1 : Int32)) a2).bind fun x13 =>
    (ld 576 (co τ 8) x13).bind fun x16 =>
    some x16
  else
    (ld 8 (cw τ 0 26) a1).bind fun x26 =>
    if x26 = (0 : Int32) then
      (X1_has a2 a3).bind fun x32 =>
      if x32 = (0 : Int32) then
        (ld 8 (cw τ 0 17) a1).bind fun x47 =>
        if a3 = x47 then
          X1_soldBy_J86 τ a1 a2 a3
        else
          (ld 8 (cw τ 0 18) a1).bind fun x60 =>
          if a3 = x60 then
            X1_soldBy_J86 τ a1 a2 a3
          else
            (ld 6 (cw τ 0 10) a3).bind fun x72 =>
            (ld 8 (co τ 7) a1).bind fun x78 =>
            if x72 < x78 then
              X1_soldBy_J86 τ a1 a2 a3
            else
              X1_soldBy_J87 τ a1 a2 a3 (1 : Int32)
      else
        X1_soldBy_J86 τ a1 a2 a3
    else
      X1_soldBy_J86 τ a1 a2 a3
set_option maxHeartbeats 4000000 in
theorem mX1_soldBy (Λ : Nat → Nat → (Nat → Int32) → Int32) (Λn : Nat → Int32) (τ : Cs) (a1 : Int32) (a2 : Int32) (a3 : Int32) (r : Int32) (hf : X1_soldBy τ a1 a2 a3 = some r) : CMi yX1_soldBy cX1_soldBy 5 (some .int) 2 61 Λ Λn (fun o aK aF => [.ref o, .int a1, .int a2, .int a3]) r τ τ := by
  refine CMi.of (by decide) (fun _ _ _ => Nat.le_of_ble_eq_true rfl) ?_
  intro p l e s m args below meth c D J o z aK aV G Ld aF Q ls hx hb hml hown hts hE hret hI hl
  obtain ⟨H, eH⟩ : ∃ H, H = s.heap := ⟨_, rfl⟩
  obtain ⟨locs, eL⟩ : ∃ L : List Loc, L = [] := ⟨_, rfl⟩
  rw [← eH, ← eL] at hI ⊢
  have hown : s.vm.findClass RX1 = some m.cls := hown
  have hl : lv_has ls 5 [(0, .ref o), (1, .int a1), (2, .int a2), (3, .int a3)] := hl
  unfold X1_soldBy at hf
  have hJ87 : ∀ (y0 : Int32) (H : Heap) (locs : List Loc) (ls : Array Slot), X1_soldBy_J87 τ a1 a2 a3 y0 = some r → IC D J o Ld s H locs τ → lv_has ls 5 [(0, .ref o), (1, .int a1), (2, .int a2), (3, .int a3)] → W p l e ({ frames := 2, cells := 0, slots := 0, locals := 61 } : Room) s m args below meth c H locs 0 0 Q (F0 m 87 ls [.int y0]) := by
    intro y0 H locs ls hf hI hl
    unfold X1_soldBy_J87 at hf
    refine lv_istore (lv' := [(4, .int y0), (0, .ref o), (1, .int a1), (2, .int a2), (3, .int a3)]) hx hb dX1_soldBy_87 hl (by decide) rfl (fun ls hl => ?_)
    refine lv_iload hx hb dX1_soldBy_89 (lv_at hl 0 rfl) ?_
    refine lv_if_eq (tgt := 120) hx hb dX1_soldBy_91 (by decide) (fun hc => ?_) (fun hc => ?_)
    · replace hf := ipos hc hf
      refine lv_iconst (v := (-1 : Int32)) hx hb dX1_soldBy_120 (by decide) ?_
      have hf := Option.some.inj hf
      rw [hf]
      exact hret H locs 121 ls hI dX1_soldBy_121
    · replace hf := ineg hc hf
      refine lv_aload_n hx hb dX1_soldBy_94 rfl (lv_at hl 1 rfl) ?_
      refine gget hx hb hts in_X1 hown hE.1.1 (hI.1.o 0 rfl) rfl 10 (by decide) q476 rfl dX1_soldBy_95 ?_
      refine lv_iload_n hx hb dX1_soldBy_98 rfl (lv_at hl 2 rfl) ?_
      obtain ⟨x99, ex99, hf⟩ := obd hf
      refine gald hx hb hE.1.1 0 (hI.1.o 8 rfl) rfl ex99 dX1_soldBy_99 ?_
      refine lv_aload_n hx hb dX1_soldBy_100 rfl (lv_at hl 1 rfl) ?_
      refine gget hx hb hts in_X1 hown hE.1.1 (hI.1.o 0 rfl) rfl 11 (by decide) q477 rfl dX1_soldBy_101 ?_
      refine lv_iload_n hx hb dX1_soldBy_104 rfl (lv_at hl 2 rfl) ?_
      refine lv_iconst (v := (1 : Int32)) hx hb dX1_soldBy_105 (by decide) ?_
      refine lv_iadd hx hb dX1_soldBy_106 ?_
      refine lv_iload_n hx hb dX1_soldBy_107 rfl (lv_at hl 3 rfl) ?_
      refine lv_iconst (v := (1 : Int32)) hx hb dX1_soldBy_108 (by decide) ?_
      refine lv_iload_n hx hb dX1_soldBy_109 rfl (lv_at hl 4 rfl) ?_
      refine lv_ishl hx hb dX1_soldBy_110 ?_
      refine lv_ior hx hb dX1_soldBy_111 ?_
      obtain ⟨x112, ex112, hf⟩ := obd hf
      refine tcallS (rest := [.ref (o + 90), .int x99]) hx hb hts hown hml hl.1 (mX1_soldAt (a1 + (1 : Int32)) (a2 ||| ((1 : Int32) <<< (a3 &&& (31 : Int32)))) _ ex112) (csX1_soldAt_X1 hts ⟨Nat.le_of_ble_eq_true rfl, Nat.le_of_ble_eq_true rfl⟩) ⟨Nat.le_of_ble_eq_true rfl, Nat.le_of_ble_eq_true rfl⟩ rfl rfl (lv_room (Nat.le_of_ble_eq_true rfl)) dX1_soldBy_112 ?_
      obtain ⟨x115, ex115, hf⟩ := obd hf
      refine gald hx hb hE.1.1 0 (hI.1.o 9 rfl) rfl ex115 dX1_soldBy_115 ?_
      refine lv_iadd hx hb dX1_soldBy_116 ?_
      refine lv_goto (tgt := 121) hx hb dX1_soldBy_117 (by decide) ?_
      have hf := Option.some.inj hf
      rw [hf]
      exact hret H locs 121 ls hI dX1_soldBy_121
  have hJ86 : ∀ (H : Heap) (locs : List Loc) (ls : Array Slot), X1_soldBy_J86 τ a1 a2 a3 = some r → IC D J o Ld s H locs τ → lv_has ls 5 [(0, .ref o), (1, .int a1), (2, .int a2), (3, .int a3)] → W p l e ({ frames := 2, cells := 0, slots := 0, locals := 61 } : Room) s m args below meth c H locs 0 0 Q (F0 m 86 ls []) := by
    intro  H locs ls hf hI hl
    unfold X1_soldBy_J86 at hf
    refine lv_iconst (v := (0 : Int32)) hx hb dX1_soldBy_86 (by decide) ?_
    exact hJ87 (0 : Int32) H locs ls hf hI  (lv_sub hl [0, 1, 2, 3] rfl)
  refine lv_iload_n hx hb dX1_soldBy_0 rfl (lv_at hl 3 rfl) ?_
  refine lv_iconst (v := (-1 : Int32)) hx hb dX1_soldBy_1 (by decide) ?_
  refine lv_icmp_ne (tgt := 18) hx hb dX1_soldBy_2 (by decide) (fun hc => ?_) (fun hc => ?_)
  · replace hf := ineg hc hf
    refine lv_aload_n hx hb dX1_soldBy_18 rfl (lv_at hl 0 rfl) ?_
    refine gget hx hb hts in_X1 hown hE.1.1 (hI.1.o 0 rfl) rfl 0 (by decide) q463 rfl dX1_soldBy_19 ?_
    refine ggetN hx hb hts in_X2 hown hE.1.1 (hI.1.w 0 (by decide) 0 rfl) rfl 26 (by decide) (hE.1.2.2.f 33 rfl) rfl dX1_soldBy_22 ?_
    refine lv_iload_n hx hb dX1_soldBy_25 rfl (lv_at hl 1 rfl) ?_
    obtain ⟨x26, ex26, hf⟩ := obd hf
    refine gald hx hb hE.1.1 0 (hI.1.w 0 (by decide) 18 rfl) rfl ex26 dX1_soldBy_26 ?_
    refine lv_if_ne (tgt := 86) hx hb dX1_soldBy_27 (by decide) (fun hc => ?_) (fun hc => ?_)
    · replace hf := ineg hc hf
      exact hJ86 H locs ls hf hI  (lv_sub hl [0, 1, 2, 3] rfl)
    · replace hf := ipos hc hf
      refine lv_iload_n hx hb dX1_soldBy_30 rfl (lv_at hl 2 rfl) ?_
      refine lv_iload_n hx hb dX1_soldBy_31 rfl (lv_at hl 3 rfl) ?_
      obtain ⟨x32, ex32, hf⟩ := obd hf
      refine tcallS (rest := []) hx hb hts hown hml hl.1 (mX1_has a2 a3 _ ex32) (csX1_has_X1 hts ⟨Nat.le_of_ble_eq_true rfl, Nat.le_of_ble_eq_true rfl⟩) ⟨Nat.le_of_ble_eq_true rfl, Nat.le_of_ble_eq_true rfl⟩ rfl rfl (lv_room (Nat.le_of_ble_eq_true rfl)) dX1_soldBy_32 ?_
      refine lv_if_ne (tgt := 86) hx hb dX1_soldBy_35 (by decide) (fun hc => ?_) (fun hc => ?_)
      · replace hf := ineg hc hf
        exact hJ86 H locs ls hf hI  (lv_sub hl [0, 1, 2, 3] rfl)
      · replace hf := ipos hc hf
        refine lv_iload_n hx hb dX1_soldBy_38 rfl (lv_at hl 3 rfl) ?_
        refine lv_aload_n hx hb dX1_soldBy_39 rfl (lv_at hl 0 rfl) ?_
        refine gget hx hb hts in_X1 hown hE.1.1 (hI.1.o 0 rfl) rfl 0 (by decide) q463 rfl dX1_soldBy_40 ?_
        refine ggetN hx hb hts in_X2 hown hE.1.1 (hI.1.w 0 (by decide) 0 rfl) rfl 17 (by decide) (hE.1.2.2.f 22 rfl) rfl dX1_soldBy_43 ?_
        refine lv_iload_n hx hb dX1_soldBy_46 rfl (lv_at hl 1 rfl) ?_
        obtain ⟨x47, ex47, hf⟩ := obd hf
        refine gald hx hb hE.1.1 0 (hI.1.w 0 (by decide) 9 rfl) rfl ex47 dX1_soldBy_47 ?_
        refine lv_icmp_eq (tgt := 86) hx hb dX1_soldBy_48 (by decide) (fun hc => ?_) (fun hc => ?_)
        · replace hf := ipos hc hf
          exact hJ86 H locs ls hf hI  (lv_sub hl [0, 1, 2, 3] rfl)
        · replace hf := ineg hc hf
          refine lv_iload_n hx hb dX1_soldBy_51 rfl (lv_at hl 3 rfl) ?_
          refine lv_aload_n hx hb dX1_soldBy_52 rfl (lv_at hl 0 rfl) ?_
          refine gget hx hb hts in_X1 hown hE.1.1 (hI.1.o 0 rfl) rfl 0 (by decide) q463 rfl dX1_soldBy_53 ?_
          refine ggetN hx hb hts in_X2 hown hE.1.1 (hI.1.w 0 (by decide) 0 rfl) rfl 18 (by decide) (hE.1.2.2.f 24 rfl) rfl dX1_soldBy_56 ?_
          refine lv_iload_n hx hb dX1_soldBy_59 rfl (lv_at hl 1 rfl) ?_
          obtain ⟨x60, ex60, hf⟩ := obd hf
          refine gald hx hb hE.1.1 0 (hI.1.w 0 (by decide) 10 rfl) rfl ex60 dX1_soldBy_60 ?_
          refine lv_icmp_eq (tgt := 86) hx hb dX1_soldBy_61 (by decide) (fun hc => ?_) (fun hc => ?_)
          · replace hf := ipos hc hf
            exact hJ86 H locs ls hf hI  (lv_sub hl [0, 1, 2, 3] rfl)
          · replace hf := ineg hc hf
            refine lv_aload_n hx hb dX1_soldBy_64 rfl (lv_at hl 0 rfl) ?_
            refine gget hx hb hts in_X1 hown hE.1.1 (hI.1.o 0 rfl) rfl 0 (by decide) q463 rfl dX1_soldBy_65 ?_
            refine ggetN hx hb hts in_X2 hown hE.1.1 (hI.1.w 0 (by decide) 0 rfl) rfl 10 (by decide) (hE.1.2.2.f 12 rfl) rfl dX1_soldBy_68 ?_
            refine lv_iload_n hx hb dX1_soldBy_71 rfl (lv_at hl 3 rfl) ?_
            obtain ⟨x72, ex72, hf⟩ := obd hf
            refine gald hx hb hE.1.1 0 (hI.1.w 0 (by decide) 2 rfl) rfl ex72 dX1_soldBy_72 ?_
            refine lv_aload_n hx hb dX1_soldBy_73 rfl (lv_at hl 0 rfl) ?_
            refine gget hx hb hts in_X1 hown hE.1.1 (hI.1.o 0 rfl) rfl 10 (by decide) q476 rfl dX1_soldBy_74 ?_
            refine lv_iload_n hx hb dX1_soldBy_77 rfl (lv_at hl 1 rfl) ?_
            obtain ⟨x78, ex78, hf⟩ := obd hf
            refine gald hx hb hE.1.1 0 (hI.1.o 8 rfl) rfl ex78 dX1_soldBy_78 ?_
            refine lv_icmp_lt (tgt := 86) hx hb dX1_soldBy_79 (by decide) (fun hc => ?_) (fun hc => ?_)
            · replace hf := ipos hc hf
              exact hJ86 H locs ls hf hI  (lv_sub hl [0, 1, 2, 3] rfl)
            · replace hf := ineg hc hf
              refine lv_iconst (v := (1 : Int32)) hx hb dX1_soldBy_82 (by decide) ?_
              refine lv_goto (tgt := 87) hx hb dX1_soldBy_83 (by decide) ?_
              exact hJ87 (1 : Int32) H locs ls hf hI  (lv_sub hl [0, 1, 2, 3] rfl)
  · replace hf := ipos hc hf
    refine lv_aload_n hx hb dX1_soldBy_5 rfl (lv_at hl 0 rfl) ?_
    refine gget hx hb hts in_X1 hown hE.1.1 (hI.1.o 0 rfl) rfl 11 (by decide) q477 rfl dX1_soldBy_6 ?_
    refine lv_iload_n hx hb dX1_soldBy_9 rfl (lv_at hl 1 rfl) ?_
    refine lv_iconst (v := (1 : Int32)) hx hb dX1_soldBy_10 (by decide) ?_
    refine lv_iadd hx hb dX1_soldBy_11 ?_
    refine lv_iload_n hx hb dX1_soldBy_12 rfl (lv_at hl 2 rfl) ?_
    obtain ⟨x13, ex13, hf⟩ := obd hf
    refine tcallS (rest := [.ref (o + 90)]) hx hb hts hown hml hl.1 (mX1_soldAt (a1 + (1 : Int32)) a2 _ ex13) (csX1_soldAt_X1 hts ⟨Nat.le_of_ble_eq_true rfl, Nat.le_of_ble_eq_true rfl⟩) ⟨Nat.le_of_ble_eq_true rfl, Nat.le_of_ble_eq_true rfl⟩ rfl rfl (lv_room (Nat.le_of_ble_eq_true rfl)) dX1_soldBy_13 ?_
    obtain ⟨x16, ex16, hf⟩ := obd hf
    refine gald hx hb hE.1.1 0 (hI.1.o 9 rfl) rfl ex16 dX1_soldBy_16 ?_
    have hf := Option.some.inj hf
    rw [hf]
    exact hret H locs 17 ls hI dX1_soldBy_17

theorem cwX1_priceOf_X1 {R : Room} {s : State} {args : Array Value} {fr lo : Nat} (hts : ∀ w ∈ lw_all, w.before args s = true) (hR : fr + 1 ≤ R.frames ∧ 8 + (3 + 11) + lo ≤ R.locals) : CallW R s args RX1 RX1 532 yX1_priceOf cX1_priceOf 3 (some .int) (ws_ yX1_priceOf cX1_priceOf 3 (some .int)) ({ frames := fr, cells := 0, slots := 0, locals := lo }) 0 0 1 :=
  cwV 1 hts (lw_V q1766 q1768 qs44 q133 q1769) rfl rfl rfl (by decide +kernel) hR
theorem cwX1_soldBy_X1 {R : Room} {s : State} {args : Array Value} {fr lo : Nat} (hts : ∀ w ∈ lw_all, w.before args s = true) (hR : fr + 1 ≤ R.frames ∧ 8 + (5 + 11) + lo ≤ R.locals) : CallW R s args RX1 RX1 633 yX1_soldBy cX1_soldBy 5 (some .int) (ws_ yX1_soldBy cX1_soldBy 5 (some .int)) ({ frames := fr, cells := 0, slots := 0, locals := lo }) 0 0 3 :=
  cwV 3 hts (lw_V q2010 q2012 qs56 q133 q2013) rfl rfl rfl (by decide +kernel) hR
def X1_laysSales_L2 (Λ : Nat → Nat → (Nat → Int32) → Int32) (w2 : Cs × Int32) : Option ((Cs × Int32) ⊕ (Cs)) :=
  if (cw w2.1 0 0 3) ≤ w2.2 then
    some (.inr w2.1)
  else
    (X1_priceOf Λ w2.1 w2.2).bind fun x20 =>
    (stof 8 (co x20.2 7) w2.2 x20.1).bind fun g23 =>
    (some (cou x20.2 (mset (co x20.2) 7 g23))).bind fun t23 =>
    (some (w2.2 + (1 : Int32))).bind fun v24 =>
    some (.inl (t23, v24))
def X1_laysSales_L55 (Λ : Nat → Nat → (Nat → Int32) → Int32) (τ : Cs) (c1 : Int32) (c2 : Int32) (w55 : Int32 × Int32) : Option ((Int32 × Int32) ⊕ (Int32)) :=
  if (cw τ 0 0 1) ≤ w55.2 then
    some (.inr w55.1)
  else
    if (cw τ 0 0 3) ≤ c1 then
      some (.inr w55.1)
    else
      (X1_soldBy τ c1 c2 w55.2).bind fun x84 =>
      (some (if w55.1 < x84 then x84 else w55.1)).bind fun v90 =>
      (some (w55.2 + (1 : Int32))).bind fun v91 =>
      some (.inl (v90, v91))
def X1_laysSales_L44 (Λ : Nat → Nat → (Nat → Int32) → Int32) (c1 : Int32) (w44 : Cs × Int32) : Option ((Cs × Int32) ⊕ (Cs)) :=
  if (64 : Int32) ≤ w44.2 then
    some (.inr w44.1)
  else
    (loopO (X1_laysSales_L55 Λ w44.1 c1 w44.2) FU ((0 : Int32), (-1 : Int32))).bind fun e55 =>
    (X1_soldAt c1 w44.2).bind fun x103 =>
    (stof 576 (co w44.1 8) x103 e55).bind fun g107 =>
    (some (cou w44.1 (mset (co w44.1) 8 g107))).bind fun t107 =>
    (some (w44.2 + (1 : Int32))).bind fun v108 =>
    some (.inl (t107, v108))
def X1_laysSales_L38 (Λ : Nat → Nat → (Nat → Int32) → Int32) (w38 : Cs × Int32) : Option ((Cs × Int32) ⊕ (Cs)) :=
  if w38.2 < (0 : Int32) then
    some (.inr w38.1)
  else
    (loopO (X1_laysSales_L44 Λ w38.2) FU (w38.1, (0 : Int32))).bind fun e44 =>
    (some (w38.2 + (-1 : Int32))).bind fun v114 =>
    some (.inl (e44, v114))
def X1_laysSales (Λ : Nat → Nat → (Nat → Int32) → Int32) (τ : Cs) : Option (Cs) :=
  (loopO (X1_laysSales_L2 Λ) FU (τ, (0 : Int32))).bind fun e2 =>
  (some (cw e2 0 0 3)).bind fun v37 =>
  (loopO (X1_laysSales_L38 Λ) FU (e2, v37)).bind fun e38 =>
  some e38
set_option maxHeartbeats 4000000 in
theorem mX1_laysSales (Λ : Nat → Nat → (Nat → Int32) → Int32) (Λn : Nat → Int32) (τ : Cs) (τ' : Cs) (hf : X1_laysSales Λ τ = some τ') : CMv yX1_laysSales cX1_laysSales 5 none 66 3138 Λ Λn (fun o aK aF => [.ref o]) τ τ' := by
  refine CMv.of (by decide) (fun _ _ _ => Nat.le_of_ble_eq_true rfl) ?_
  intro p l e s m args below meth c D J o z aK aV G Ld aF Q ls hx hb hml hown hts hE hret hI hl
  obtain ⟨H, eH⟩ : ∃ H, H = s.heap := ⟨_, rfl⟩
  obtain ⟨locs, eL⟩ : ∃ L : List Loc, L = [] := ⟨_, rfl⟩
  rw [← eH, ← eL] at hI ⊢
  have hown : s.vm.findClass RX1 = some m.cls := hown
  have hl : lv_has ls 5 [(0, .ref o)] := hl
  unfold X1_laysSales at hf
  refine lv_iconst (v := (0 : Int32)) hx hb dX1_laysSales_0 (by decide) ?_
  refine lv_istore_n (lv' := [(1, .int (0 : Int32)), (0, .ref o)]) hx hb dX1_laysSales_1 rfl hl (by decide) rfl (fun ls hl => ?_)
  obtain ⟨e2, he2, hf⟩ := obd hf
  refine loopO_W (Wat := fun w2 => ∀ (H : Heap) (locs : List Loc) (ls : Array Slot), IC D J o Ld s H locs w2.1 → lv_has ls 5 [(0, .ref o), (1, .int w2.2)] → W p l e ({ frames := 66, cells := 0, slots := 0, locals := 3138 } : Room) s m args below meth c H locs 0 0 Q (F0 m 2 ls [])) (Wex := fun ex_ => ∀ (H : Heap) (locs : List Loc) (ls : Array Slot), IC D J o Ld s H locs ex_ → lv_has ls 5 [(0, .ref o)] → W p l e ({ frames := 66, cells := 0, slots := 0, locals := 3138 } : Room) s m args below meth c H locs 0 0 Q (F0 m 30 ls [])) (fun w2 o2 hf hk hq => ?_) FU _ e2 he2 ?_ H locs ls hI (lv_sub hl [1, 0] rfl)
  · intro H locs ls hI hl
    unfold X1_laysSales_L2 at hf
    refine lv_iload_n hx hb dX1_laysSales_2 rfl (lv_at hl 1 rfl) ?_
    refine lv_aload_n hx hb dX1_laysSales_3 rfl (lv_at hl 0 rfl) ?_
    refine gget hx hb hts in_X1 hown hE.1.1 (hI.1.o 0 rfl) rfl 0 (by decide) q463 rfl dX1_laysSales_4 ?_
    refine ggetN hx hb hts in_X2 hown hE.1.1 (hI.1.w 0 (by decide) 0 rfl) rfl 3 (by decide) (hE.1.2.2.f 5 rfl) rfl dX1_laysSales_7 ?_
    refine lv_icmp_ge (tgt := 30) hx hb dX1_laysSales_10 (by decide) (fun hc => ?_) (fun hc => ?_)
    · replace hf := ipos hc hf
      exact hq _ (Option.some.inj hf).symm H locs ls hI (lv_sub hl [0] rfl)
    · replace hf := ineg hc hf
      refine lv_aload_n hx hb dX1_laysSales_13 rfl (lv_at hl 0 rfl) ?_
      refine gget hx hb hts in_X1 hown hE.1.1 (hI.1.o 0 rfl) rfl 10 (by decide) q476 rfl dX1_laysSales_14 ?_
      refine lv_iload_n hx hb dX1_laysSales_17 rfl (lv_at hl 1 rfl) ?_
      refine lv_aload_n hx hb dX1_laysSales_18 rfl (lv_at hl 0 rfl) ?_
      refine lv_iload_n hx hb dX1_laysSales_19 rfl (lv_at hl 1 rfl) ?_
      obtain ⟨x20, ex20, hf⟩ := obd hf
      refine ccallI (rest := [.int w2.2, .ref (o + 89)]) hx hb hts hown hE hI hml hl.1 (mX1_priceOf Λ Λn w2.1 w2.2 _ _ ex20) (cwX1_priceOf_X1 hts ⟨Nat.le_of_ble_eq_true rfl, Nat.le_of_ble_eq_true rfl⟩) (hI.1.o 0 rfl) rfl rfl ⟨Nat.le_of_ble_eq_true rfl, Nat.le_of_ble_eq_true rfl⟩ rfl rfl (lv_room (Nat.le_of_ble_eq_true rfl)) dX1_laysSales_20 (fun H locs hI => ?_)
      obtain ⟨g23, eg23, hf⟩ := obd hf
      obtain ⟨t23, et23, hf⟩ := obd hf
      refine gast hx hb hE.1.1 0 (hI.1.o 8 rfl) rfl eg23 dX1_laysSales_23 (fun H locs h1 h2 h3 h4 => ?_)
      have hI := hI.putO (σ' := cou x20.2 (mset (co x20.2) 7 g23)) (P := 8) rfl rfl ⟨rfl, rfl⟩ h1 h2 h3 h4
      rw [Option.some.inj et23] at hI
      obtain ⟨v24, ev24, hf⟩ := obd hf
      refine lv_iinc (v := v24) (lv' := [(1, .int v24), (0, .ref o)]) hx hb dX1_laysSales_24 hl (k := 1) rfl (iiE ev24 (by decide)) (by decide) rfl (fun ls hl => ?_)
      refine lv_goto (tgt := 2) hx hb dX1_laysSales_27 (by decide) ?_
      exact hk _ (Option.some.inj hf).symm H locs ls hI (lv_sub hl [1, 0] rfl)
  · skip
    intro H locs ls hI hl
    refine lv_aload_n hx hb dX1_laysSales_30 rfl (lv_at hl 0 rfl) ?_
    refine gget hx hb hts in_X1 hown hE.1.1 (hI.1.o 0 rfl) rfl 0 (by decide) q463 rfl dX1_laysSales_31 ?_
    refine ggetN hx hb hts in_X2 hown hE.1.1 (hI.1.w 0 (by decide) 0 rfl) rfl 3 (by decide) (hE.1.2.2.f 5 rfl) rfl dX1_laysSales_34 ?_
    obtain ⟨v37, ev37, hf⟩ := obd hf
    refine nmI ev37 ?_
    refine lv_istore_n (lv' := [(1, .int v37), (0, .ref o)]) hx hb dX1_laysSales_37 rfl hl (by decide) rfl (fun ls hl => ?_)
    obtain ⟨e38, he38, hf⟩ := obd hf
    refine loopO_W (Wat := fun w38 => ∀ (H : Heap) (locs : List Loc) (ls : Array Slot), IC D J o Ld s H locs w38.1 → lv_has ls 5 [(0, .ref o), (1, .int w38.2)] → W p l e ({ frames := 66, cells := 0, slots := 0, locals := 3138 } : Room) s m args below meth c H locs 0 0 Q (F0 m 38 ls [])) (Wex := fun ex_ => ∀ (H : Heap) (locs : List Loc) (ls : Array Slot), IC D J o Ld s H locs ex_ → lv_has ls 5 [] → W p l e ({ frames := 66, cells := 0, slots := 0, locals := 3138 } : Room) s m args below meth c H locs 0 0 Q (F0 m 120 ls [])) (fun w38 o38 hf hk hq => ?_) FU _ e38 he38 ?_ H locs ls hI (lv_sub hl [1, 0] rfl)
    · intro H locs ls hI hl
      unfold X1_laysSales_L38 at hf
      refine lv_iload_n hx hb dX1_laysSales_38 rfl (lv_at hl 1 rfl) ?_
      refine lv_if_lt (tgt := 120) hx hb dX1_laysSales_39 (by decide) (fun hc => ?_) (fun hc => ?_)
      · replace hf := ipos hc hf
        exact hq _ (Option.some.inj hf).symm H locs ls hI (lv_sub hl [] rfl)
      · replace hf := ineg hc hf
        refine lv_iconst (v := (0 : Int32)) hx hb dX1_laysSales_42 (by decide) ?_
        refine lv_istore_n (lv' := [(2, .int (0 : Int32)), (0, .ref o), (1, .int w38.2)]) hx hb dX1_laysSales_43 rfl hl (by decide) rfl (fun ls hl => ?_)
        obtain ⟨e44, he44, hf⟩ := obd hf
        have hs44 : ∀ (c1 : Int32), ∀ (w44 : Cs × Int32) (o44 : (Cs × Int32) ⊕ (Cs)), X1_laysSales_L44 Λ c1 w44 = some o44 → (∀ wx_, o44 = .inl wx_ → ∀ (H : Heap) (locs : List Loc) (ls : Array Slot), IC D J o Ld s H locs wx_.1 → lv_has ls 5 [(0, .ref o), (1, .int c1), (2, .int wx_.2)] → W p l e ({ frames := 66, cells := 0, slots := 0, locals := 3138 } : Room) s m args below meth c H locs 0 0 Q (F0 m 44 ls [])) → (∀ ex_, o44 = .inr ex_ → ∀ (H : Heap) (locs : List Loc) (ls : Array Slot), IC D J o Ld s H locs ex_ → lv_has ls 5 [(0, .ref o), (1, .int c1)] → W p l e ({ frames := 66, cells := 0, slots := 0, locals := 3138 } : Room) s m args below meth c H locs 0 0 Q (F0 m 114 ls [])) → ∀ (H : Heap) (locs : List Loc) (ls : Array Slot), IC D J o Ld s H locs w44.1 → lv_has ls 5 [(0, .ref o), (1, .int c1), (2, .int w44.2)] → W p l e ({ frames := 66, cells := 0, slots := 0, locals := 3138 } : Room) s m args below meth c H locs 0 0 Q (F0 m 44 ls []) := by
          intro c1 w44 o44 hf hk hq H locs ls hI hl
          unfold X1_laysSales_L44 at hf
          refine lv_iload_n hx hb dX1_laysSales_44 rfl (lv_at hl 2 rfl) ?_
          refine lv_bipush (v := (64 : Int32)) hx hb dX1_laysSales_45 (by decide) ?_
          refine lv_icmp_ge (tgt := 114) hx hb dX1_laysSales_47 (by decide) (fun hc => ?_) (fun hc => ?_)
          · replace hf := ipos hc hf
            exact hq _ (Option.some.inj hf).symm H locs ls hI (lv_sub hl [0, 1] rfl)
          · replace hf := ineg hc hf
            refine lv_iconst (v := (0 : Int32)) hx hb dX1_laysSales_50 (by decide) ?_
            refine lv_istore_n (lv' := [(3, .int (0 : Int32)), (0, .ref o), (1, .int c1), (2, .int w44.2)]) hx hb dX1_laysSales_51 rfl hl (by decide) rfl (fun ls hl => ?_)
            refine lv_iconst (v := (-1 : Int32)) hx hb dX1_laysSales_52 (by decide) ?_
            refine lv_istore (lv' := [(4, .int (-1 : Int32)), (3, .int (0 : Int32)), (0, .ref o), (1, .int c1), (2, .int w44.2)]) hx hb dX1_laysSales_53 hl (by decide) rfl (fun ls hl => ?_)
            obtain ⟨e55, he55, hf⟩ := obd hf
            have hs55 : ∀ (τ : Cs) (c1 : Int32) (c2 : Int32), ∀ (w55 : Int32 × Int32) (o55 : (Int32 × Int32) ⊕ (Int32)), X1_laysSales_L55 Λ τ c1 c2 w55 = some o55 → (∀ wx_, o55 = .inl wx_ → ∀ (H : Heap) (locs : List Loc) (ls : Array Slot), IC D J o Ld s H locs τ → lv_has ls 5 [(0, .ref o), (1, .int c1), (2, .int c2), (3, .int wx_.1), (4, .int wx_.2)] → W p l e ({ frames := 66, cells := 0, slots := 0, locals := 3138 } : Room) s m args below meth c H locs 0 0 Q (F0 m 55 ls [])) → (∀ ex_, o55 = .inr ex_ → ∀ (H : Heap) (locs : List Loc) (ls : Array Slot), IC D J o Ld s H locs τ → lv_has ls 5 [(0, .ref o), (1, .int c1), (2, .int c2), (3, .int ex_)] → W p l e ({ frames := 66, cells := 0, slots := 0, locals := 3138 } : Room) s m args below meth c H locs 0 0 Q (F0 m 97 ls [])) → ∀ (H : Heap) (locs : List Loc) (ls : Array Slot), IC D J o Ld s H locs τ → lv_has ls 5 [(0, .ref o), (1, .int c1), (2, .int c2), (3, .int w55.1), (4, .int w55.2)] → W p l e ({ frames := 66, cells := 0, slots := 0, locals := 3138 } : Room) s m args below meth c H locs 0 0 Q (F0 m 55 ls []) := by
              intro τ c1 c2 w55 o55 hf hk hq H locs ls hI hl
              unfold X1_laysSales_L55 at hf
              refine lv_iload hx hb dX1_laysSales_55 (lv_at hl 4 rfl) ?_
              refine lv_aload_n hx hb dX1_laysSales_57 rfl (lv_at hl 0 rfl) ?_
              refine gget hx hb hts in_X1 hown hE.1.1 (hI.1.o 0 rfl) rfl 0 (by decide) q463 rfl dX1_laysSales_58 ?_
              refine ggetN hx hb hts in_X2 hown hE.1.1 (hI.1.w 0 (by decide) 0 rfl) rfl 1 (by decide) (hE.1.2.2.f 1 rfl) rfl dX1_laysSales_61 ?_
              refine lv_icmp_ge (tgt := 97) hx hb dX1_laysSales_64 (by decide) (fun hc => ?_) (fun hc => ?_)
              · replace hf := ipos hc hf
                exact hq _ (Option.some.inj hf).symm H locs ls hI (lv_sub hl [0, 1, 2, 3] rfl)
              · replace hf := ineg hc hf
                refine lv_iload_n hx hb dX1_laysSales_67 rfl (lv_at hl 1 rfl) ?_
                refine lv_aload_n hx hb dX1_laysSales_68 rfl (lv_at hl 0 rfl) ?_
                refine gget hx hb hts in_X1 hown hE.1.1 (hI.1.o 0 rfl) rfl 0 (by decide) q463 rfl dX1_laysSales_69 ?_
                refine ggetN hx hb hts in_X2 hown hE.1.1 (hI.1.w 0 (by decide) 0 rfl) rfl 3 (by decide) (hE.1.2.2.f 5 rfl) rfl dX1_laysSales_72 ?_
                refine lv_icmp_ge (tgt := 97) hx hb dX1_laysSales_75 (by decide) (fun hc => ?_) (fun hc => ?_)
                · replace hf := ipos hc hf
                  exact hq _ (Option.some.inj hf).symm H locs ls hI (lv_sub hl [0, 1, 2, 3] rfl)
                · replace hf := ineg hc hf
                  refine lv_iload_n hx hb dX1_laysSales_78 rfl (lv_at hl 3 rfl) ?_
                  refine lv_aload_n hx hb dX1_laysSales_79 rfl (lv_at hl 0 rfl) ?_
                  refine lv_iload_n hx hb dX1_laysSales_80 rfl (lv_at hl 1 rfl) ?_
                  refine lv_iload_n hx hb dX1_laysSales_81 rfl (lv_at hl 2 rfl) ?_
                  refine lv_iload hx hb dX1_laysSales_82 (lv_at hl 4 rfl) ?_
                  obtain ⟨x84, ex84, hf⟩ := obd hf
                  refine ccallI (rest := [.int w55.1]) hx hb hts hown hE hI hml hl.1 (mX1_soldBy Λ Λn τ c1 c2 w55.2 _ ex84) (cwX1_soldBy_X1 hts ⟨Nat.le_of_ble_eq_true rfl, Nat.le_of_ble_eq_true rfl⟩) (hI.1.o 0 rfl) rfl rfl ⟨Nat.le_of_ble_eq_true rfl, Nat.le_of_ble_eq_true rfl⟩ rfl rfl (lv_room (Nat.le_of_ble_eq_true rfl)) dX1_laysSales_84 (fun H locs hI => ?_)
                  refine va_mmax hx hb (hml.trans hl.1.symm) hown (hts _ q678) (hts _ q679) (hts _ q150) (hts _ q680) (Nat.le_of_ble_eq_true rfl) (Nat.le_of_ble_eq_true rfl) (Nat.le_of_ble_eq_true rfl) (Nat.le_of_ble_eq_true rfl) dX1_laysSales_87 ?_
                  obtain ⟨v90, ev90, hf⟩ := obd hf
                  refine nmI ev90 ?_
                  refine lv_istore_n (lv' := [(3, .int v90), (0, .ref o), (1, .int c1), (2, .int c2), (4, .int w55.2)]) hx hb dX1_laysSales_90 rfl hl (by decide) rfl (fun ls hl => ?_)
                  obtain ⟨v91, ev91, hf⟩ := obd hf
                  refine lv_iinc (v := v91) (lv' := [(4, .int v91), (3, .int v90), (0, .ref o), (1, .int c1), (2, .int c2)]) hx hb dX1_laysSales_91 hl (k := 4) rfl (iiE ev91 (by decide)) (by decide) rfl (fun ls hl => ?_)
                  refine lv_goto (tgt := 55) hx hb dX1_laysSales_94 (by decide) ?_
                  exact hk _ (Option.some.inj hf).symm H locs ls hI (lv_sub hl [2, 3, 4, 1, 0] rfl)
            refine loopO_W (Wat := fun w55 => ∀ (H : Heap) (locs : List Loc) (ls : Array Slot), IC D J o Ld s H locs w44.1 → lv_has ls 5 [(0, .ref o), (1, .int c1), (2, .int w44.2), (3, .int w55.1), (4, .int w55.2)] → W p l e ({ frames := 66, cells := 0, slots := 0, locals := 3138 } : Room) s m args below meth c H locs 0 0 Q (F0 m 55 ls [])) (Wex := fun ex_ => ∀ (H : Heap) (locs : List Loc) (ls : Array Slot), IC D J o Ld s H locs w44.1 → lv_has ls 5 [(0, .ref o), (1, .int c1), (2, .int w44.2), (3, .int ex_)] → W p l e ({ frames := 66, cells := 0, slots := 0, locals := 3138 } : Room) s m args below meth c H locs 0 0 Q (F0 m 97 ls [])) (hs55 w44.1 c1 w44.2) FU _ e55 he55 ?_ H locs ls hI (lv_sub hl [2, 3, 4, 1, 0] rfl)
            · skip
              intro H locs ls hI hl
              refine lv_aload_n hx hb dX1_laysSales_97 rfl (lv_at hl 0 rfl) ?_
              refine gget hx hb hts in_X1 hown hE.1.1 (hI.1.o 0 rfl) rfl 11 (by decide) q477 rfl dX1_laysSales_98 ?_
              refine lv_iload_n hx hb dX1_laysSales_101 rfl (lv_at hl 1 rfl) ?_
              refine lv_iload_n hx hb dX1_laysSales_102 rfl (lv_at hl 2 rfl) ?_
              obtain ⟨x103, ex103, hf⟩ := obd hf
              refine tcallS (rest := [.ref (o + 90)]) hx hb hts hown hml hl.1 (mX1_soldAt c1 w44.2 _ ex103) (csX1_soldAt_X1 hts ⟨Nat.le_of_ble_eq_true rfl, Nat.le_of_ble_eq_true rfl⟩) ⟨Nat.le_of_ble_eq_true rfl, Nat.le_of_ble_eq_true rfl⟩ rfl rfl (lv_room (Nat.le_of_ble_eq_true rfl)) dX1_laysSales_103 ?_
              refine lv_iload_n hx hb dX1_laysSales_106 rfl (lv_at hl 3 rfl) ?_
              obtain ⟨g107, eg107, hf⟩ := obd hf
              obtain ⟨t107, et107, hf⟩ := obd hf
              refine gast hx hb hE.1.1 0 (hI.1.o 9 rfl) rfl eg107 dX1_laysSales_107 (fun H locs h1 h2 h3 h4 => ?_)
              have hI := hI.putO (σ' := cou w44.1 (mset (co w44.1) 8 g107)) (P := 9) rfl rfl ⟨rfl, rfl⟩ h1 h2 h3 h4
              rw [Option.some.inj et107] at hI
              obtain ⟨v108, ev108, hf⟩ := obd hf
              refine lv_iinc (v := v108) (lv' := [(2, .int v108), (0, .ref o), (1, .int c1), (3, .int e55)]) hx hb dX1_laysSales_108 hl (k := 2) rfl (iiE ev108 (by decide)) (by decide) rfl (fun ls hl => ?_)
              refine lv_goto (tgt := 44) hx hb dX1_laysSales_111 (by decide) ?_
              exact hk _ (Option.some.inj hf).symm H locs ls hI (lv_sub hl [1, 2, 0] rfl)
        refine loopO_W (Wat := fun w44 => ∀ (H : Heap) (locs : List Loc) (ls : Array Slot), IC D J o Ld s H locs w44.1 → lv_has ls 5 [(0, .ref o), (1, .int w38.2), (2, .int w44.2)] → W p l e ({ frames := 66, cells := 0, slots := 0, locals := 3138 } : Room) s m args below meth c H locs 0 0 Q (F0 m 44 ls [])) (Wex := fun ex_ => ∀ (H : Heap) (locs : List Loc) (ls : Array Slot), IC D J o Ld s H locs ex_ → lv_has ls 5 [(0, .ref o), (1, .int w38.2)] → W p l e ({ frames := 66, cells := 0, slots := 0, locals := 3138 } : Room) s m args below meth c H locs 0 0 Q (F0 m 114 ls [])) (hs44 w38.2) FU _ e44 he44 ?_ H locs ls hI (lv_sub hl [1, 2, 0] rfl)
        · skip
          intro H locs ls hI hl
          obtain ⟨v114, ev114, hf⟩ := obd hf
          refine lv_iinc (v := v114) (lv' := [(1, .int v114), (0, .ref o)]) hx hb dX1_laysSales_114 hl (k := 1) rfl (iiE ev114 (by decide)) (by decide) rfl (fun ls hl => ?_)
          refine lv_goto (tgt := 38) hx hb dX1_laysSales_117 (by decide) ?_
          exact hk _ (Option.some.inj hf).symm H locs ls hI (lv_sub hl [1, 0] rfl)
    · skip
      intro H locs ls hI hl
      exact hret H locs 120 ls ((Option.some.inj hf) ▸ hI) dX1_laysSales_120

def X1_heirHas_J65 (Λ : Nat → Nat → (Nat → Int32) → Int32) (τ : Cs) (a2 : Int32) (a3 : Int32) (a4 : Int32) (y0 : Int32) : Option (Int32 × Cs) :=
  (X1_costsOf Λ τ 0 a2).bind fun x73 =>
  if a3 = (1 : Int32) then
    some ((y0 - (0 : Int32)), x73.2)
  else
    if a4 = (1 : Int32) then
      some ((y0 - x73.1), x73.2)
    else
      some ((y0 - (x73.1 / (2 : Int32))), x73.2)
def X1_heirHas_J13 (Λ : Nat → Nat → (Nat → Int32) → Int32) (τ : Cs) (a1 : Int32) (a2 : Int32) (a3 : Int32) (a4 : Int32) : Option (Int32 × Cs) :=
  (ld 8 (cw τ 0 18) a2).bind fun x21 =>
  if x21 = a1 then
    (ld 8 (cw τ 0 19) a2).bind fun x34 =>
    X1_heirHas_J65 Λ τ a2 a3 a4 x34
  else
    (ld 8 (cw τ 0 17) a2).bind fun x46 =>
    if x46 = a1 then
      (ld 8 (cw τ 0 19) a2).bind fun x59 =>
      X1_heirHas_J65 Λ τ a2 a3 a4 (-x59)
    else
      X1_heirHas_J65 Λ τ a2 a3 a4 (0 : Int32)
def X1_heirHas (Λ : Nat → Nat → (Nat → Int32) → Int32) (τ : Cs) (a1 : Int32) (a2 : Int32) (a3 : Int32) (a4 : Int32) : Option (Int32 × Cs) :=
  if a3 = (1 : Int32) then
    if a4 = (1 : Int32) then
      some ((0 : Int32), τ)
    else
      X1_heirHas_J13 Λ τ a1 a2 a3 a4
  else
    X1_heirHas_J13 Λ τ a1 a2 a3 a4
set_option maxHeartbeats 4000000 in
theorem mX1_heirHas (Λ : Nat → Nat → (Nat → Int32) → Int32) (Λn : Nat → Int32) (τ : Cs) (a1 : Int32) (a2 : Int32) (a3 : Int32) (a4 : Int32) (r : Int32) (τ' : Cs) (hf : X1_heirHas Λ τ a1 a2 a3 a4 = some (r, τ')) : CMi yX1_heirHas cX1_heirHas 7 (some .int) 62 3046 Λ Λn (fun o aK aF => [.ref o, .int a1, .int a2, .int a3, .int a4]) r τ τ' := by
  refine CMi.of (by decide) (fun _ _ _ => Nat.le_of_ble_eq_true rfl) ?_
  intro p l e s m args below meth c D J o z aK aV G Ld aF Q ls hx hb hml hown hts hE hret hI hl
  obtain ⟨H, eH⟩ : ∃ H, H = s.heap := ⟨_, rfl⟩
  obtain ⟨locs, eL⟩ : ∃ L : List Loc, L = [] := ⟨_, rfl⟩
  rw [← eH, ← eL] at hI ⊢
  have hown : s.vm.findClass RX1 = some m.cls := hown
  have hl : lv_has ls 7 [(0, .ref o), (1, .int a1), (2, .int a2), (3, .int a3), (4, .int a4)] := hl
  unfold X1_heirHas at hf
  have hJ65 : ∀ (τ : Cs) (y0 : Int32) (H : Heap) (locs : List Loc) (ls : Array Slot), X1_heirHas_J65 Λ τ a2 a3 a4 y0 = some (r, τ') → IC D J o Ld s H locs τ → lv_has ls 7 [(0, .ref o), (2, .int a2), (3, .int a3), (4, .int a4)] → W p l e ({ frames := 62, cells := 0, slots := 0, locals := 3046 } : Room) s m args below meth c H locs 0 0 Q (F0 m 65 ls [.int y0]) := by
    intro τ y0 H locs ls hf hI hl
    unfold X1_heirHas_J65 at hf
    refine lv_istore (lv' := [(5, .int y0), (0, .ref o), (2, .int a2), (3, .int a3), (4, .int a4)]) hx hb dX1_heirHas_65 hl (by decide) rfl (fun ls hl => ?_)
    refine lv_aload_n hx hb dX1_heirHas_67 rfl (lv_at hl 1 rfl) ?_
    refine lv_aload_n hx hb dX1_heirHas_68 rfl (lv_at hl 1 rfl) ?_
    refine gget hx hb hts in_X1 hown hE.1.1 (hI.1.o 0 rfl) rfl 0 (by decide) q463 rfl dX1_heirHas_69 ?_
    refine lv_iload_n hx hb dX1_heirHas_72 rfl (lv_at hl 2 rfl) ?_
    obtain ⟨x73, ex73, hf⟩ := obd hf
    refine ccallI (rest := []) hx hb hts hown hE hI hml hl.1 (mX1_costsOf Λ Λn τ 0 a2 (by decide) _ _ ex73) (cwX1_costsOf_X1 hts ⟨Nat.le_of_ble_eq_true rfl, Nat.le_of_ble_eq_true rfl⟩) (hI.1.o 0 rfl) rfl rfl ⟨Nat.le_of_ble_eq_true rfl, Nat.le_of_ble_eq_true rfl⟩ rfl rfl (lv_room (Nat.le_of_ble_eq_true rfl)) dX1_heirHas_73 (fun H locs hI => ?_)
    refine lv_istore (lv' := [(6, .int x73.1), (5, .int y0), (0, .ref o), (2, .int a2), (3, .int a3), (4, .int a4)]) hx hb dX1_heirHas_76 hl (by decide) rfl (fun ls hl => ?_)
    refine lv_iload hx hb dX1_heirHas_78 (lv_at hl 1 rfl) ?_
    refine lv_iload_n hx hb dX1_heirHas_80 rfl (lv_at hl 4 rfl) ?_
    refine lv_iconst (v := (1 : Int32)) hx hb dX1_heirHas_81 (by decide) ?_
    refine lv_icmp_ne (tgt := 89) hx hb dX1_heirHas_82 (by decide) (fun hc => ?_) (fun hc => ?_)
    · replace hf := ineg hc hf
      refine lv_iload hx hb dX1_heirHas_89 (lv_at hl 5 rfl) ?_
      refine lv_iconst (v := (1 : Int32)) hx hb dX1_heirHas_91 (by decide) ?_
      refine lv_icmp_ne (tgt := 100) hx hb dX1_heirHas_92 (by decide) (fun hc => ?_) (fun hc => ?_)
      · replace hf := ineg hc hf
        refine lv_iload hx hb dX1_heirHas_100 (lv_at hl 0 rfl) ?_
        refine lv_iconst (v := (2 : Int32)) hx hb dX1_heirHas_102 (by decide) ?_
        refine lv_idiv hx hb dX1_heirHas_103 (by decide) ?_
        refine lv_isub hx hb dX1_heirHas_104 ?_
        have hf := Prod.mk.inj (Option.some.inj hf)
        rw [hf.1]
        exact hret H locs 105 ls (hf.2 ▸ hI) dX1_heirHas_105
      · replace hf := ipos hc hf
        refine lv_iload hx hb dX1_heirHas_95 (lv_at hl 0 rfl) ?_
        refine lv_goto (tgt := 104) hx hb dX1_heirHas_97 (by decide) ?_
        refine lv_isub hx hb dX1_heirHas_104 ?_
        have hf := Prod.mk.inj (Option.some.inj hf)
        rw [hf.1]
        exact hret H locs 105 ls (hf.2 ▸ hI) dX1_heirHas_105
    · replace hf := ipos hc hf
      refine lv_iconst (v := (0 : Int32)) hx hb dX1_heirHas_85 (by decide) ?_
      refine lv_goto (tgt := 104) hx hb dX1_heirHas_86 (by decide) ?_
      refine lv_isub hx hb dX1_heirHas_104 ?_
      have hf := Prod.mk.inj (Option.some.inj hf)
      rw [hf.1]
      exact hret H locs 105 ls (hf.2 ▸ hI) dX1_heirHas_105
  have hJ13 : ∀ (τ : Cs) (H : Heap) (locs : List Loc) (ls : Array Slot), X1_heirHas_J13 Λ τ a1 a2 a3 a4 = some (r, τ') → IC D J o Ld s H locs τ → lv_has ls 7 [(0, .ref o), (1, .int a1), (2, .int a2), (3, .int a3), (4, .int a4)] → W p l e ({ frames := 62, cells := 0, slots := 0, locals := 3046 } : Room) s m args below meth c H locs 0 0 Q (F0 m 13 ls []) := by
    intro τ  H locs ls hf hI hl
    unfold X1_heirHas_J13 at hf
    refine lv_aload_n hx hb dX1_heirHas_13 rfl (lv_at hl 0 rfl) ?_
    refine gget hx hb hts in_X1 hown hE.1.1 (hI.1.o 0 rfl) rfl 0 (by decide) q463 rfl dX1_heirHas_14 ?_
    refine ggetN hx hb hts in_X2 hown hE.1.1 (hI.1.w 0 (by decide) 0 rfl) rfl 18 (by decide) (hE.1.2.2.f 24 rfl) rfl dX1_heirHas_17 ?_
    refine lv_iload_n hx hb dX1_heirHas_20 rfl (lv_at hl 2 rfl) ?_
    obtain ⟨x21, ex21, hf⟩ := obd hf
    refine gald hx hb hE.1.1 0 (hI.1.w 0 (by decide) 10 rfl) rfl ex21 dX1_heirHas_21 ?_
    refine lv_iload_n hx hb dX1_heirHas_22 rfl (lv_at hl 1 rfl) ?_
    refine lv_icmp_ne (tgt := 38) hx hb dX1_heirHas_23 (by decide) (fun hc => ?_) (fun hc => ?_)
    · replace hf := ineg hc hf
      refine lv_aload_n hx hb dX1_heirHas_38 rfl (lv_at hl 0 rfl) ?_
      refine gget hx hb hts in_X1 hown hE.1.1 (hI.1.o 0 rfl) rfl 0 (by decide) q463 rfl dX1_heirHas_39 ?_
      refine ggetN hx hb hts in_X2 hown hE.1.1 (hI.1.w 0 (by decide) 0 rfl) rfl 17 (by decide) (hE.1.2.2.f 22 rfl) rfl dX1_heirHas_42 ?_
      refine lv_iload_n hx hb dX1_heirHas_45 rfl (lv_at hl 2 rfl) ?_
      obtain ⟨x46, ex46, hf⟩ := obd hf
      refine gald hx hb hE.1.1 0 (hI.1.w 0 (by decide) 9 rfl) rfl ex46 dX1_heirHas_46 ?_
      refine lv_iload_n hx hb dX1_heirHas_47 rfl (lv_at hl 1 rfl) ?_
      refine lv_icmp_ne (tgt := 64) hx hb dX1_heirHas_48 (by decide) (fun hc => ?_) (fun hc => ?_)
      · replace hf := ineg hc hf
        refine lv_iconst (v := (0 : Int32)) hx hb dX1_heirHas_64 (by decide) ?_
        exact hJ65 τ (0 : Int32) H locs ls hf hI  (lv_sub hl [0, 2, 3, 4] rfl)
      · replace hf := ipos hc hf
        refine lv_aload_n hx hb dX1_heirHas_51 rfl (lv_at hl 0 rfl) ?_
        refine gget hx hb hts in_X1 hown hE.1.1 (hI.1.o 0 rfl) rfl 0 (by decide) q463 rfl dX1_heirHas_52 ?_
        refine ggetN hx hb hts in_X2 hown hE.1.1 (hI.1.w 0 (by decide) 0 rfl) rfl 19 (by decide) (hE.1.2.2.f 26 rfl) rfl dX1_heirHas_55 ?_
        refine lv_iload_n hx hb dX1_heirHas_58 rfl (lv_at hl 2 rfl) ?_
        obtain ⟨x59, ex59, hf⟩ := obd hf
        refine gald hx hb hE.1.1 0 (hI.1.w 0 (by decide) 11 rfl) rfl ex59 dX1_heirHas_59 ?_
        refine lv_ineg hx hb dX1_heirHas_60 ?_
        refine lv_goto (tgt := 65) hx hb dX1_heirHas_61 (by decide) ?_
        exact hJ65 τ (-x59) H locs ls hf hI  (lv_sub hl [0, 2, 3, 4] rfl)
    · replace hf := ipos hc hf
      refine lv_aload_n hx hb dX1_heirHas_26 rfl (lv_at hl 0 rfl) ?_
      refine gget hx hb hts in_X1 hown hE.1.1 (hI.1.o 0 rfl) rfl 0 (by decide) q463 rfl dX1_heirHas_27 ?_
      refine ggetN hx hb hts in_X2 hown hE.1.1 (hI.1.w 0 (by decide) 0 rfl) rfl 19 (by decide) (hE.1.2.2.f 26 rfl) rfl dX1_heirHas_30 ?_
      refine lv_iload_n hx hb dX1_heirHas_33 rfl (lv_at hl 2 rfl) ?_
      obtain ⟨x34, ex34, hf⟩ := obd hf
      refine gald hx hb hE.1.1 0 (hI.1.w 0 (by decide) 11 rfl) rfl ex34 dX1_heirHas_34 ?_
      refine lv_goto (tgt := 65) hx hb dX1_heirHas_35 (by decide) ?_
      exact hJ65 τ x34 H locs ls hf hI  (lv_sub hl [0, 2, 3, 4] rfl)
  refine lv_iload_n hx hb dX1_heirHas_0 rfl (lv_at hl 3 rfl) ?_
  refine lv_iconst (v := (1 : Int32)) hx hb dX1_heirHas_1 (by decide) ?_
  refine lv_icmp_ne (tgt := 13) hx hb dX1_heirHas_2 (by decide) (fun hc => ?_) (fun hc => ?_)
  · replace hf := ineg hc hf
    exact hJ13 τ H locs ls hf hI  (lv_sub hl [0, 1, 2, 3, 4] rfl)
  · replace hf := ipos hc hf
    refine lv_iload hx hb dX1_heirHas_5 (lv_at hl 4 rfl) ?_
    refine lv_iconst (v := (1 : Int32)) hx hb dX1_heirHas_7 (by decide) ?_
    refine lv_icmp_ne (tgt := 13) hx hb dX1_heirHas_8 (by decide) (fun hc => ?_) (fun hc => ?_)
    · replace hf := ineg hc hf
      exact hJ13 τ H locs ls hf hI  (lv_sub hl [0, 1, 2, 3, 4] rfl)
    · replace hf := ipos hc hf
      refine lv_iconst (v := (0 : Int32)) hx hb dX1_heirHas_11 (by decide) ?_
      have hf := Prod.mk.inj (Option.some.inj hf)
      rw [hf.1]
      exact hret H locs 12 ls (hf.2 ▸ hI) dX1_heirHas_12

def X1_richest_L4 (τ : Cs) (w4 : Int32 × Int32) : Option ((Int32 × Int32) ⊕ (Int32)) :=
  if (cw τ 0 0 1) ≤ w4.2 then
    some (.inr w4.1)
  else
    if w4.1 = (-1 : Int32) then
      (some (w4.2 + (1 : Int32))).bind fun v43 =>
      some (.inl (w4.2, v43))
    else
      (ld 6 (cw τ 0 10) w4.2).bind fun x28 =>
      (ld 6 (cw τ 0 10) w4.1).bind fun x37 =>
      if x28 ≤ x37 then
        (some (w4.2 + (1 : Int32))).bind fun v43_4 =>
        some (.inl (w4.1, v43_4))
      else
        (some (w4.2 + (1 : Int32))).bind fun v43_5 =>
        some (.inl (w4.2, v43_5))
def X1_richest (τ : Cs) : Option (Int32) :=
  (loopO (X1_richest_L4 τ) FU ((-1 : Int32), (0 : Int32))).bind fun e4 =>
  some e4
set_option maxHeartbeats 4000000 in
theorem mX1_richest (Λ : Nat → Nat → (Nat → Int32) → Int32) (Λn : Nat → Int32) (τ : Cs) (r : Int32) (hf : X1_richest τ = some r) : CMi yX1_richest cX1_richest 3 (some .int) 1 40 Λ Λn (fun o aK aF => [.ref o]) r τ τ := by
  refine CMi.of (by decide) (fun _ _ _ => Nat.le_of_ble_eq_true rfl) ?_
  intro p l e s m args below meth c D J o z aK aV G Ld aF Q ls hx hb hml hown hts hE hret hI hl
  obtain ⟨H, eH⟩ : ∃ H, H = s.heap := ⟨_, rfl⟩
  obtain ⟨locs, eL⟩ : ∃ L : List Loc, L = [] := ⟨_, rfl⟩
  rw [← eH, ← eL] at hI ⊢
  have hown : s.vm.findClass RX1 = some m.cls := hown
  have hl : lv_has ls 3 [(0, .ref o)] := hl
  unfold X1_richest at hf
  refine lv_iconst (v := (-1 : Int32)) hx hb dX1_richest_0 (by decide) ?_
  refine lv_istore_n (lv' := [(1, .int (-1 : Int32)), (0, .ref o)]) hx hb dX1_richest_1 rfl hl (by decide) rfl (fun ls hl => ?_)
  refine lv_iconst (v := (0 : Int32)) hx hb dX1_richest_2 (by decide) ?_
  refine lv_istore_n (lv' := [(2, .int (0 : Int32)), (1, .int (-1 : Int32)), (0, .ref o)]) hx hb dX1_richest_3 rfl hl (by decide) rfl (fun ls hl => ?_)
  obtain ⟨e4, he4, hf⟩ := obd hf
  refine loopO_W (Wat := fun w4 => ∀ (H : Heap) (locs : List Loc) (ls : Array Slot), IC D J o Ld s H locs τ → lv_has ls 3 [(0, .ref o), (1, .int w4.1), (2, .int w4.2)] → W p l e ({ frames := 1, cells := 0, slots := 0, locals := 40 } : Room) s m args below meth c H locs 0 0 Q (F0 m 4 ls [])) (Wex := fun ex_ => ∀ (H : Heap) (locs : List Loc) (ls : Array Slot), IC D J o Ld s H locs τ → lv_has ls 3 [(1, .int ex_)] → W p l e ({ frames := 1, cells := 0, slots := 0, locals := 40 } : Room) s m args below meth c H locs 0 0 Q (F0 m 49 ls [])) (fun w4 o4 hf hk hq => ?_) FU _ e4 he4 ?_ H locs ls hI (lv_sub hl [2, 1, 0] rfl)
  · intro H locs ls hI hl
    unfold X1_richest_L4 at hf
    refine lv_iload_n hx hb dX1_richest_4 rfl (lv_at hl 2 rfl) ?_
    refine lv_aload_n hx hb dX1_richest_5 rfl (lv_at hl 0 rfl) ?_
    refine gget hx hb hts in_X1 hown hE.1.1 (hI.1.o 0 rfl) rfl 0 (by decide) q463 rfl dX1_richest_6 ?_
    refine ggetN hx hb hts in_X2 hown hE.1.1 (hI.1.w 0 (by decide) 0 rfl) rfl 1 (by decide) (hE.1.2.2.f 1 rfl) rfl dX1_richest_9 ?_
    refine lv_icmp_ge (tgt := 49) hx hb dX1_richest_12 (by decide) (fun hc => ?_) (fun hc => ?_)
    · replace hf := ipos hc hf
      exact hq _ (Option.some.inj hf).symm H locs ls hI (lv_sub hl [1] rfl)
    · replace hf := ineg hc hf
      refine lv_iload_n hx hb dX1_richest_15 rfl (lv_at hl 1 rfl) ?_
      refine lv_iconst (v := (-1 : Int32)) hx hb dX1_richest_16 (by decide) ?_
      refine lv_icmp_eq (tgt := 41) hx hb dX1_richest_17 (by decide) (fun hc => ?_) (fun hc => ?_)
      · replace hf := ipos hc hf
        refine lv_iload_n hx hb dX1_richest_41 rfl (lv_at hl 2 rfl) ?_
        refine lv_istore_n (lv' := [(1, .int w4.2), (0, .ref o), (2, .int w4.2)]) hx hb dX1_richest_42 rfl hl (by decide) rfl (fun ls hl => ?_)
        obtain ⟨v43, ev43, hf⟩ := obd hf
        refine lv_iinc (v := v43) (lv' := [(2, .int v43), (1, .int w4.2), (0, .ref o)]) hx hb dX1_richest_43 hl (k := 2) rfl (iiE ev43 (by decide)) (by decide) rfl (fun ls hl => ?_)
        refine lv_goto (tgt := 4) hx hb dX1_richest_46 (by decide) ?_
        exact hk _ (Option.some.inj hf).symm H locs ls hI (lv_sub hl [2, 1, 0] rfl)
      · replace hf := ineg hc hf
        refine lv_aload_n hx hb dX1_richest_20 rfl (lv_at hl 0 rfl) ?_
        refine gget hx hb hts in_X1 hown hE.1.1 (hI.1.o 0 rfl) rfl 0 (by decide) q463 rfl dX1_richest_21 ?_
        refine ggetN hx hb hts in_X2 hown hE.1.1 (hI.1.w 0 (by decide) 0 rfl) rfl 10 (by decide) (hE.1.2.2.f 12 rfl) rfl dX1_richest_24 ?_
        refine lv_iload_n hx hb dX1_richest_27 rfl (lv_at hl 2 rfl) ?_
        obtain ⟨x28, ex28, hf⟩ := obd hf
        refine gald hx hb hE.1.1 0 (hI.1.w 0 (by decide) 2 rfl) rfl ex28 dX1_richest_28 ?_
        refine lv_aload_n hx hb dX1_richest_29 rfl (lv_at hl 0 rfl) ?_
        refine gget hx hb hts in_X1 hown hE.1.1 (hI.1.o 0 rfl) rfl 0 (by decide) q463 rfl dX1_richest_30 ?_
        refine ggetN hx hb hts in_X2 hown hE.1.1 (hI.1.w 0 (by decide) 0 rfl) rfl 10 (by decide) (hE.1.2.2.f 12 rfl) rfl dX1_richest_33 ?_
        refine lv_iload_n hx hb dX1_richest_36 rfl (lv_at hl 1 rfl) ?_
        obtain ⟨x37, ex37, hf⟩ := obd hf
        refine gald hx hb hE.1.1 0 (hI.1.w 0 (by decide) 2 rfl) rfl ex37 dX1_richest_37 ?_
        refine lv_icmp_le (tgt := 43) hx hb dX1_richest_38 (by decide) (fun hc => ?_) (fun hc => ?_)
        · replace hf := ipos hc hf
          obtain ⟨v43_4, ev43_4, hf⟩ := obd hf
          refine lv_iinc (v := v43_4) (lv' := [(2, .int v43_4), (0, .ref o), (1, .int w4.1)]) hx hb dX1_richest_43 hl (k := 2) rfl (iiE ev43_4 (by decide)) (by decide) rfl (fun ls hl => ?_)
          refine lv_goto (tgt := 4) hx hb dX1_richest_46 (by decide) ?_
          exact hk _ (Option.some.inj hf).symm H locs ls hI (lv_sub hl [1, 2, 0] rfl)
        · replace hf := ineg hc hf
          refine lv_iload_n hx hb dX1_richest_41 rfl (lv_at hl 2 rfl) ?_
          refine lv_istore_n (lv' := [(1, .int w4.2), (0, .ref o), (2, .int w4.2)]) hx hb dX1_richest_42 rfl hl (by decide) rfl (fun ls hl => ?_)
          obtain ⟨v43_5, ev43_5, hf⟩ := obd hf
          refine lv_iinc (v := v43_5) (lv' := [(2, .int v43_5), (1, .int w4.2), (0, .ref o)]) hx hb dX1_richest_43 hl (k := 2) rfl (iiE ev43_5 (by decide)) (by decide) rfl (fun ls hl => ?_)
          refine lv_goto (tgt := 4) hx hb dX1_richest_46 (by decide) ?_
          exact hk _ (Option.some.inj hf).symm H locs ls hI (lv_sub hl [2, 1, 0] rfl)
  · skip
    intro H locs ls hI hl
    refine lv_iload_n hx hb dX1_richest_49 rfl (lv_at hl 0 rfl) ?_
    have hf := Option.some.inj hf
    rw [hf]
    exact hret H locs 50 ls hI dX1_richest_50

def X1_likens (τ : Cs) (a1 : Int32) (a2 : Int32) : Option (Int32) :=
  (ld 8 (cw τ 0 16) a1).bind fun x8 =>
  (ld 8 (cw τ 0 16) a2).bind fun x17 =>
  if x8 = x17 then
    (ld 8 (cw τ 0 17) a1).bind fun x29 =>
    (ld 8 (cw τ 0 17) a2).bind fun x38 =>
    if x29 = x38 then
      (ld 8 (cw τ 0 18) a1).bind fun x50 =>
      (ld 8 (cw τ 0 18) a2).bind fun x59 =>
      if x50 = x59 then
        (ld 8 (cw τ 0 19) a1).bind fun x71 =>
        (ld 8 (cw τ 0 19) a2).bind fun x80 =>
        if x71 = x80 then
          some (1 : Int32)
        else
          some (0 : Int32)
      else
        some (0 : Int32)
    else
      some (0 : Int32)
  else
    some (0 : Int32)
set_option maxHeartbeats 4000000 in
theorem mX1_likens (Λ : Nat → Nat → (Nat → Int32) → Int32) (Λn : Nat → Int32) (τ : Cs) (a1 : Int32) (a2 : Int32) (r : Int32) (hf : X1_likens τ a1 a2 = some r) : CMi yX1_likens cX1_likens 3 (some .boolean) 1 40 Λ Λn (fun o aK aF => [.ref o, .int a1, .int a2]) r τ τ := by
  refine CMz.of (by decide) (fun _ _ _ => Nat.le_of_ble_eq_true rfl) ?_
  intro p l e s m args below meth c D J o z aK aV G Ld aF Q ls hx hb hml hown hts hE hret hI hl
  obtain ⟨H, eH⟩ : ∃ H, H = s.heap := ⟨_, rfl⟩
  obtain ⟨locs, eL⟩ : ∃ L : List Loc, L = [] := ⟨_, rfl⟩
  rw [← eH, ← eL] at hI ⊢
  have hown : s.vm.findClass RX1 = some m.cls := hown
  have hl : lv_has ls 3 [(0, .ref o), (1, .int a1), (2, .int a2)] := hl
  unfold X1_likens at hf
  refine lv_aload_n hx hb dX1_likens_0 rfl (lv_at hl 0 rfl) ?_
  refine gget hx hb hts in_X1 hown hE.1.1 (hI.1.o 0 rfl) rfl 0 (by decide) q463 rfl dX1_likens_1 ?_
  refine ggetN hx hb hts in_X2 hown hE.1.1 (hI.1.w 0 (by decide) 0 rfl) rfl 16 (by decide) (hE.1.2.2.f 20 rfl) rfl dX1_likens_4 ?_
  refine lv_iload_n hx hb dX1_likens_7 rfl (lv_at hl 1 rfl) ?_
  obtain ⟨x8, ex8, hf⟩ := obd hf
  refine gald hx hb hE.1.1 0 (hI.1.w 0 (by decide) 8 rfl) rfl ex8 dX1_likens_8 ?_
  refine lv_aload_n hx hb dX1_likens_9 rfl (lv_at hl 0 rfl) ?_
  refine gget hx hb hts in_X1 hown hE.1.1 (hI.1.o 0 rfl) rfl 0 (by decide) q463 rfl dX1_likens_10 ?_
  refine ggetN hx hb hts in_X2 hown hE.1.1 (hI.1.w 0 (by decide) 0 rfl) rfl 16 (by decide) (hE.1.2.2.f 20 rfl) rfl dX1_likens_13 ?_
  refine lv_iload_n hx hb dX1_likens_16 rfl (lv_at hl 2 rfl) ?_
  obtain ⟨x17, ex17, hf⟩ := obd hf
  refine gald hx hb hE.1.1 0 (hI.1.w 0 (by decide) 8 rfl) rfl ex17 dX1_likens_17 ?_
  refine lv_icmp_ne (tgt := 88) hx hb dX1_likens_18 (by decide) (fun hc => ?_) (fun hc => ?_)
  · replace hf := ineg hc hf
    refine lv_iconst (v := (0 : Int32)) hx hb dX1_likens_88 (by decide) ?_
    have hf := Option.some.inj hf
    rw [hf]
    exact hret H locs 89 ls hI (hf ▸ (by decide)) dX1_likens_89
  · replace hf := ipos hc hf
    refine lv_aload_n hx hb dX1_likens_21 rfl (lv_at hl 0 rfl) ?_
    refine gget hx hb hts in_X1 hown hE.1.1 (hI.1.o 0 rfl) rfl 0 (by decide) q463 rfl dX1_likens_22 ?_
    refine ggetN hx hb hts in_X2 hown hE.1.1 (hI.1.w 0 (by decide) 0 rfl) rfl 17 (by decide) (hE.1.2.2.f 22 rfl) rfl dX1_likens_25 ?_
    refine lv_iload_n hx hb dX1_likens_28 rfl (lv_at hl 1 rfl) ?_
    obtain ⟨x29, ex29, hf⟩ := obd hf
    refine gald hx hb hE.1.1 0 (hI.1.w 0 (by decide) 9 rfl) rfl ex29 dX1_likens_29 ?_
    refine lv_aload_n hx hb dX1_likens_30 rfl (lv_at hl 0 rfl) ?_
    refine gget hx hb hts in_X1 hown hE.1.1 (hI.1.o 0 rfl) rfl 0 (by decide) q463 rfl dX1_likens_31 ?_
    refine ggetN hx hb hts in_X2 hown hE.1.1 (hI.1.w 0 (by decide) 0 rfl) rfl 17 (by decide) (hE.1.2.2.f 22 rfl) rfl dX1_likens_34 ?_
    refine lv_iload_n hx hb dX1_likens_37 rfl (lv_at hl 2 rfl) ?_
    obtain ⟨x38, ex38, hf⟩ := obd hf
    refine gald hx hb hE.1.1 0 (hI.1.w 0 (by decide) 9 rfl) rfl ex38 dX1_likens_38 ?_
    refine lv_icmp_ne (tgt := 88) hx hb dX1_likens_39 (by decide) (fun hc => ?_) (fun hc => ?_)
    · replace hf := ineg hc hf
      refine lv_iconst (v := (0 : Int32)) hx hb dX1_likens_88 (by decide) ?_
      have hf := Option.some.inj hf
      rw [hf]
      exact hret H locs 89 ls hI (hf ▸ (by decide)) dX1_likens_89
    · replace hf := ipos hc hf
      refine lv_aload_n hx hb dX1_likens_42 rfl (lv_at hl 0 rfl) ?_
      refine gget hx hb hts in_X1 hown hE.1.1 (hI.1.o 0 rfl) rfl 0 (by decide) q463 rfl dX1_likens_43 ?_
      refine ggetN hx hb hts in_X2 hown hE.1.1 (hI.1.w 0 (by decide) 0 rfl) rfl 18 (by decide) (hE.1.2.2.f 24 rfl) rfl dX1_likens_46 ?_
      refine lv_iload_n hx hb dX1_likens_49 rfl (lv_at hl 1 rfl) ?_
      obtain ⟨x50, ex50, hf⟩ := obd hf
      refine gald hx hb hE.1.1 0 (hI.1.w 0 (by decide) 10 rfl) rfl ex50 dX1_likens_50 ?_
      refine lv_aload_n hx hb dX1_likens_51 rfl (lv_at hl 0 rfl) ?_
      refine gget hx hb hts in_X1 hown hE.1.1 (hI.1.o 0 rfl) rfl 0 (by decide) q463 rfl dX1_likens_52 ?_
      refine ggetN hx hb hts in_X2 hown hE.1.1 (hI.1.w 0 (by decide) 0 rfl) rfl 18 (by decide) (hE.1.2.2.f 24 rfl) rfl dX1_likens_55 ?_
      refine lv_iload_n hx hb dX1_likens_58 rfl (lv_at hl 2 rfl) ?_
      obtain ⟨x59, ex59, hf⟩ := obd hf
      refine gald hx hb hE.1.1 0 (hI.1.w 0 (by decide) 10 rfl) rfl ex59 dX1_likens_59 ?_
      refine lv_icmp_ne (tgt := 88) hx hb dX1_likens_60 (by decide) (fun hc => ?_) (fun hc => ?_)
      · replace hf := ineg hc hf
        refine lv_iconst (v := (0 : Int32)) hx hb dX1_likens_88 (by decide) ?_
        have hf := Option.some.inj hf
        rw [hf]
        exact hret H locs 89 ls hI (hf ▸ (by decide)) dX1_likens_89
      · replace hf := ipos hc hf
        refine lv_aload_n hx hb dX1_likens_63 rfl (lv_at hl 0 rfl) ?_
        refine gget hx hb hts in_X1 hown hE.1.1 (hI.1.o 0 rfl) rfl 0 (by decide) q463 rfl dX1_likens_64 ?_
        refine ggetN hx hb hts in_X2 hown hE.1.1 (hI.1.w 0 (by decide) 0 rfl) rfl 19 (by decide) (hE.1.2.2.f 26 rfl) rfl dX1_likens_67 ?_
        refine lv_iload_n hx hb dX1_likens_70 rfl (lv_at hl 1 rfl) ?_
        obtain ⟨x71, ex71, hf⟩ := obd hf
        refine gald hx hb hE.1.1 0 (hI.1.w 0 (by decide) 11 rfl) rfl ex71 dX1_likens_71 ?_
        refine lv_aload_n hx hb dX1_likens_72 rfl (lv_at hl 0 rfl) ?_
        refine gget hx hb hts in_X1 hown hE.1.1 (hI.1.o 0 rfl) rfl 0 (by decide) q463 rfl dX1_likens_73 ?_
        refine ggetN hx hb hts in_X2 hown hE.1.1 (hI.1.w 0 (by decide) 0 rfl) rfl 19 (by decide) (hE.1.2.2.f 26 rfl) rfl dX1_likens_76 ?_
        refine lv_iload_n hx hb dX1_likens_79 rfl (lv_at hl 2 rfl) ?_
        obtain ⟨x80, ex80, hf⟩ := obd hf
        refine gald hx hb hE.1.1 0 (hI.1.w 0 (by decide) 11 rfl) rfl ex80 dX1_likens_80 ?_
        refine lv_icmp_ne (tgt := 88) hx hb dX1_likens_81 (by decide) (fun hc => ?_) (fun hc => ?_)
        · replace hf := ineg hc hf
          refine lv_iconst (v := (0 : Int32)) hx hb dX1_likens_88 (by decide) ?_
          have hf := Option.some.inj hf
          rw [hf]
          exact hret H locs 89 ls hI (hf ▸ (by decide)) dX1_likens_89
        · replace hf := ipos hc hf
          refine lv_iconst (v := (1 : Int32)) hx hb dX1_likens_84 (by decide) ?_
          refine lv_goto (tgt := 89) hx hb dX1_likens_85 (by decide) ?_
          have hf := Option.some.inj hf
          rw [hf]
          exact hret H locs 89 ls hI (hf ▸ (by decide)) dX1_likens_89

theorem cwX1_likens_X1 {R : Room} {s : State} {args : Array Value} {fr lo : Nat} (hts : ∀ w ∈ lw_all, w.before args s = true) (hR : fr + 1 ≤ R.frames ∧ 8 + (3 + 11) + lo ≤ R.locals) : CallW R s args RX1 RX1 647 yX1_likens cX1_likens 3 (some .boolean) (ws_ yX1_likens cX1_likens 3 (some .boolean)) ({ frames := fr, cells := 0, slots := 0, locals := lo }) 0 0 2 :=
  cwV 2 hts (lw_V q778 q780 qs12 q133 q781) rfl rfl rfl (by decide +kernel) hR
def X1_alike_L17 (τ : Cs) (c2 : Int32) (w17 : Int32 × Int32) : Option ((Int32 × Int32) ⊕ (Int32)) :=
  if c2 ≤ w17.2 then
    some (.inr w17.1)
  else
    (X1_likens τ c2 w17.2).bind fun x26 =>
    if x26 = (0 : Int32) then
      (some (w17.1 + (0 : Int32))).bind fun v38 =>
      (some (w17.2 + (1 : Int32))).bind fun v39 =>
      some (.inl (v38, v39))
    else
      (some (w17.1 + (1 : Int32))).bind fun v38_4 =>
      (some (w17.2 + (1 : Int32))).bind fun v39_5 =>
      some (.inl (v38_4, v39_5))
def X1_alike_L4 (τ : Cs) (w4 : Int32 × Int32) : Option ((Int32 × Int32) ⊕ (Int32)) :=
  if (cw τ 0 0 3) ≤ w4.2 then
    some (.inr w4.1)
  else
    (loopO (X1_alike_L17 τ w4.2) FU (w4.1, (0 : Int32))).bind fun e17 =>
    (some (w4.2 + (1 : Int32))).bind fun v45 =>
    some (.inl (e17, v45))
def X1_alike (τ : Cs) : Option (Int32) :=
  (loopO (X1_alike_L4 τ) FU ((0 : Int32), (0 : Int32))).bind fun e4 =>
  some e4
set_option maxHeartbeats 4000000 in
theorem mX1_alike (Λ : Nat → Nat → (Nat → Int32) → Int32) (Λn : Nat → Int32) (τ : Cs) (r : Int32) (hf : X1_alike τ = some r) : CMi yX1_alike cX1_alike 4 (some .int) 2 62 Λ Λn (fun o aK aF => [.ref o]) r τ τ := by
  refine CMi.of (by decide) (fun _ _ _ => Nat.le_of_ble_eq_true rfl) ?_
  intro p l e s m args below meth c D J o z aK aV G Ld aF Q ls hx hb hml hown hts hE hret hI hl
  obtain ⟨H, eH⟩ : ∃ H, H = s.heap := ⟨_, rfl⟩
  obtain ⟨locs, eL⟩ : ∃ L : List Loc, L = [] := ⟨_, rfl⟩
  rw [← eH, ← eL] at hI ⊢
  have hown : s.vm.findClass RX1 = some m.cls := hown
  have hl : lv_has ls 4 [(0, .ref o)] := hl
  unfold X1_alike at hf
  refine lv_iconst (v := (0 : Int32)) hx hb dX1_alike_0 (by decide) ?_
  refine lv_istore_n (lv' := [(1, .int (0 : Int32)), (0, .ref o)]) hx hb dX1_alike_1 rfl hl (by decide) rfl (fun ls hl => ?_)
  refine lv_iconst (v := (0 : Int32)) hx hb dX1_alike_2 (by decide) ?_
  refine lv_istore_n (lv' := [(2, .int (0 : Int32)), (1, .int (0 : Int32)), (0, .ref o)]) hx hb dX1_alike_3 rfl hl (by decide) rfl (fun ls hl => ?_)
  obtain ⟨e4, he4, hf⟩ := obd hf
  refine loopO_W (Wat := fun w4 => ∀ (H : Heap) (locs : List Loc) (ls : Array Slot), IC D J o Ld s H locs τ → lv_has ls 4 [(0, .ref o), (1, .int w4.1), (2, .int w4.2)] → W p l e ({ frames := 2, cells := 0, slots := 0, locals := 62 } : Room) s m args below meth c H locs 0 0 Q (F0 m 4 ls [])) (Wex := fun ex_ => ∀ (H : Heap) (locs : List Loc) (ls : Array Slot), IC D J o Ld s H locs τ → lv_has ls 4 [(1, .int ex_)] → W p l e ({ frames := 2, cells := 0, slots := 0, locals := 62 } : Room) s m args below meth c H locs 0 0 Q (F0 m 51 ls [])) (fun w4 o4 hf hk hq => ?_) FU _ e4 he4 ?_ H locs ls hI (lv_sub hl [2, 1, 0] rfl)
  · intro H locs ls hI hl
    unfold X1_alike_L4 at hf
    refine lv_iload_n hx hb dX1_alike_4 rfl (lv_at hl 2 rfl) ?_
    refine lv_aload_n hx hb dX1_alike_5 rfl (lv_at hl 0 rfl) ?_
    refine gget hx hb hts in_X1 hown hE.1.1 (hI.1.o 0 rfl) rfl 0 (by decide) q463 rfl dX1_alike_6 ?_
    refine ggetN hx hb hts in_X2 hown hE.1.1 (hI.1.w 0 (by decide) 0 rfl) rfl 3 (by decide) (hE.1.2.2.f 5 rfl) rfl dX1_alike_9 ?_
    refine lv_icmp_ge (tgt := 51) hx hb dX1_alike_12 (by decide) (fun hc => ?_) (fun hc => ?_)
    · replace hf := ipos hc hf
      exact hq _ (Option.some.inj hf).symm H locs ls hI (lv_sub hl [1] rfl)
    · replace hf := ineg hc hf
      refine lv_iconst (v := (0 : Int32)) hx hb dX1_alike_15 (by decide) ?_
      refine lv_istore_n (lv' := [(3, .int (0 : Int32)), (0, .ref o), (1, .int w4.1), (2, .int w4.2)]) hx hb dX1_alike_16 rfl hl (by decide) rfl (fun ls hl => ?_)
      obtain ⟨e17, he17, hf⟩ := obd hf
      have hs17 : ∀ (c2 : Int32), ∀ (w17 : Int32 × Int32) (o17 : (Int32 × Int32) ⊕ (Int32)), X1_alike_L17 τ c2 w17 = some o17 → (∀ wx_, o17 = .inl wx_ → ∀ (H : Heap) (locs : List Loc) (ls : Array Slot), IC D J o Ld s H locs τ → lv_has ls 4 [(0, .ref o), (1, .int wx_.1), (2, .int c2), (3, .int wx_.2)] → W p l e ({ frames := 2, cells := 0, slots := 0, locals := 62 } : Room) s m args below meth c H locs 0 0 Q (F0 m 17 ls [])) → (∀ ex_, o17 = .inr ex_ → ∀ (H : Heap) (locs : List Loc) (ls : Array Slot), IC D J o Ld s H locs τ → lv_has ls 4 [(0, .ref o), (1, .int ex_), (2, .int c2)] → W p l e ({ frames := 2, cells := 0, slots := 0, locals := 62 } : Room) s m args below meth c H locs 0 0 Q (F0 m 45 ls [])) → ∀ (H : Heap) (locs : List Loc) (ls : Array Slot), IC D J o Ld s H locs τ → lv_has ls 4 [(0, .ref o), (1, .int w17.1), (2, .int c2), (3, .int w17.2)] → W p l e ({ frames := 2, cells := 0, slots := 0, locals := 62 } : Room) s m args below meth c H locs 0 0 Q (F0 m 17 ls []) := by
        intro c2 w17 o17 hf hk hq H locs ls hI hl
        unfold X1_alike_L17 at hf
        refine lv_iload_n hx hb dX1_alike_17 rfl (lv_at hl 3 rfl) ?_
        refine lv_iload_n hx hb dX1_alike_18 rfl (lv_at hl 2 rfl) ?_
        refine lv_icmp_ge (tgt := 45) hx hb dX1_alike_19 (by decide) (fun hc => ?_) (fun hc => ?_)
        · replace hf := ipos hc hf
          exact hq _ (Option.some.inj hf).symm H locs ls hI (lv_sub hl [0, 1, 2] rfl)
        · replace hf := ineg hc hf
          refine lv_iload_n hx hb dX1_alike_22 rfl (lv_at hl 1 rfl) ?_
          refine lv_aload_n hx hb dX1_alike_23 rfl (lv_at hl 0 rfl) ?_
          refine lv_iload_n hx hb dX1_alike_24 rfl (lv_at hl 2 rfl) ?_
          refine lv_iload_n hx hb dX1_alike_25 rfl (lv_at hl 3 rfl) ?_
          obtain ⟨x26, ex26, hf⟩ := obd hf
          refine ccallI (rest := [.int w17.1]) hx hb hts hown hE hI hml hl.1 (mX1_likens Λ Λn τ c2 w17.2 _ ex26) (cwX1_likens_X1 hts ⟨Nat.le_of_ble_eq_true rfl, Nat.le_of_ble_eq_true rfl⟩) (hI.1.o 0 rfl) rfl rfl ⟨Nat.le_of_ble_eq_true rfl, Nat.le_of_ble_eq_true rfl⟩ rfl rfl (lv_room (Nat.le_of_ble_eq_true rfl)) dX1_alike_26 (fun H locs hI => ?_)
          refine lv_if_eq (tgt := 36) hx hb dX1_alike_29 (by decide) (fun hc => ?_) (fun hc => ?_)
          · replace hf := ipos hc hf
            refine lv_iconst (v := (0 : Int32)) hx hb dX1_alike_36 (by decide) ?_
            refine lv_iadd hx hb dX1_alike_37 ?_
            obtain ⟨v38, ev38, hf⟩ := obd hf
            refine nmI ev38 ?_
            refine lv_istore_n (lv' := [(1, .int v38), (0, .ref o), (2, .int c2), (3, .int w17.2)]) hx hb dX1_alike_38 rfl hl (by decide) rfl (fun ls hl => ?_)
            obtain ⟨v39, ev39, hf⟩ := obd hf
            refine lv_iinc (v := v39) (lv' := [(3, .int v39), (1, .int v38), (0, .ref o), (2, .int c2)]) hx hb dX1_alike_39 hl (k := 3) rfl (iiE ev39 (by decide)) (by decide) rfl (fun ls hl => ?_)
            refine lv_goto (tgt := 17) hx hb dX1_alike_42 (by decide) ?_
            exact hk _ (Option.some.inj hf).symm H locs ls hI (lv_sub hl [2, 1, 3, 0] rfl)
          · replace hf := ineg hc hf
            refine lv_iconst (v := (1 : Int32)) hx hb dX1_alike_32 (by decide) ?_
            refine lv_goto (tgt := 37) hx hb dX1_alike_33 (by decide) ?_
            refine lv_iadd hx hb dX1_alike_37 ?_
            obtain ⟨v38_4, ev38_4, hf⟩ := obd hf
            refine nmI ev38_4 ?_
            refine lv_istore_n (lv' := [(1, .int v38_4), (0, .ref o), (2, .int c2), (3, .int w17.2)]) hx hb dX1_alike_38 rfl hl (by decide) rfl (fun ls hl => ?_)
            obtain ⟨v39_5, ev39_5, hf⟩ := obd hf
            refine lv_iinc (v := v39_5) (lv' := [(3, .int v39_5), (1, .int v38_4), (0, .ref o), (2, .int c2)]) hx hb dX1_alike_39 hl (k := 3) rfl (iiE ev39_5 (by decide)) (by decide) rfl (fun ls hl => ?_)
            refine lv_goto (tgt := 17) hx hb dX1_alike_42 (by decide) ?_
            exact hk _ (Option.some.inj hf).symm H locs ls hI (lv_sub hl [2, 1, 3, 0] rfl)
      refine loopO_W (Wat := fun w17 => ∀ (H : Heap) (locs : List Loc) (ls : Array Slot), IC D J o Ld s H locs τ → lv_has ls 4 [(0, .ref o), (1, .int w17.1), (2, .int w4.2), (3, .int w17.2)] → W p l e ({ frames := 2, cells := 0, slots := 0, locals := 62 } : Room) s m args below meth c H locs 0 0 Q (F0 m 17 ls [])) (Wex := fun ex_ => ∀ (H : Heap) (locs : List Loc) (ls : Array Slot), IC D J o Ld s H locs τ → lv_has ls 4 [(0, .ref o), (1, .int ex_), (2, .int w4.2)] → W p l e ({ frames := 2, cells := 0, slots := 0, locals := 62 } : Room) s m args below meth c H locs 0 0 Q (F0 m 45 ls [])) (hs17 w4.2) FU _ e17 he17 ?_ H locs ls hI (lv_sub hl [1, 2, 3, 0] rfl)
      · skip
        intro H locs ls hI hl
        obtain ⟨v45, ev45, hf⟩ := obd hf
        refine lv_iinc (v := v45) (lv' := [(2, .int v45), (0, .ref o), (1, .int e17)]) hx hb dX1_alike_45 hl (k := 2) rfl (iiE ev45 (by decide)) (by decide) rfl (fun ls hl => ?_)
        refine lv_goto (tgt := 4) hx hb dX1_alike_48 (by decide) ?_
        exact hk _ (Option.some.inj hf).symm H locs ls hI (lv_sub hl [1, 2, 0] rfl)
  · skip
    intro H locs ls hI hl
    refine lv_iload_n hx hb dX1_alike_51 rfl (lv_at hl 0 rfl) ?_
    have hf := Option.some.inj hf
    rw [hf]
    exact hret H locs 52 ls hI dX1_alike_52

def X1_broken (τ : Cs) : Option (Int32) :=
  (X2_brokeOnes (cw τ 0)).bind fun x4 =>
  some x4
set_option maxHeartbeats 4000000 in
theorem mX1_broken (Λ : Nat → Nat → (Nat → Int32) → Int32) (Λn : Nat → Int32) (τ : Cs) (r : Int32) (hf : X1_broken τ = some r) : CMi yX1_broken cX1_broken 1 (some .int) 2 62 Λ Λn (fun o aK aF => [.ref o]) r τ τ := by
  refine CMi.of (by decide) (fun _ _ _ => Nat.le_of_ble_eq_true rfl) ?_
  intro p l e s m args below meth c D J o z aK aV G Ld aF Q ls hx hb hml hown hts hE hret hI hl
  obtain ⟨H, eH⟩ : ∃ H, H = s.heap := ⟨_, rfl⟩
  obtain ⟨locs, eL⟩ : ∃ L : List Loc, L = [] := ⟨_, rfl⟩
  rw [← eH, ← eL] at hI ⊢
  have hown : s.vm.findClass RX1 = some m.cls := hown
  have hl : lv_has ls 1 [(0, .ref o)] := hl
  unfold X1_broken at hf
  refine lv_aload_n hx hb dX1_broken_0 rfl (lv_at hl 0 rfl) ?_
  refine gget hx hb hts in_X1 hown hE.1.1 (hI.1.o 0 rfl) rfl 0 (by decide) q463 rfl dX1_broken_1 ?_
  obtain ⟨x4, ex4, hf⟩ := obd hf
  refine cworldI (rest := []) hx hb hts hown hE hI hml hl.1 (mX2_brokeOnes (cw τ 0) _ ex4) (by decide) (cwX2_brokeOnes_X1 hts ⟨Nat.le_of_ble_eq_true rfl, Nat.le_of_ble_eq_true rfl⟩) (congrArg some (cwu_self τ 0)) ⟨Nat.le_of_ble_eq_true rfl, Nat.le_of_ble_eq_true rfl⟩ rfl rfl (lv_room (Nat.le_of_ble_eq_true rfl)) dX1_broken_4 (fun H locs hI => ?_)
  have hf := Option.some.inj hf
  rw [hf]
  exact hret H locs 7 ls hI dX1_broken_7

theorem cwX1_drawnSeason_X1 {R : Room} {s : State} {args : Array Value} {fr lo : Nat} (hts : ∀ w ∈ lw_all, w.before args s = true) (hR : fr + 1 ≤ R.frames ∧ 8 + (2 + 11) + lo ≤ R.locals) : CallW R s args RX1 RX1 542 yX1_drawnSeason cX1_drawnSeason 2 (some .int) (ws_ yX1_drawnSeason cX1_drawnSeason 2 (some .int)) ({ frames := fr, cells := 0, slots := 0, locals := lo }) 0 0 1 :=
  cwV 1 hts (lw_V q1784 q1786 qs46 q133 q1787) rfl rfl rfl (by decide +kernel) hR
def X1_tries_L2 (Λ : Nat → Nat → (Nat → Int32) → Int32) (c1 : Int32) (w2 : Cs × Int32) : Option ((Cs × Int32) ⊕ (Cs)) :=
  if c1 ≤ w2.2 then
    some (.inr w2.1)
  else
    (X1_drawnSeason Λ w2.1 4).bind fun x12 =>
    (some (w2.2 + (1 : Int32))).bind fun v16 =>
    some (.inl (x12.2, v16))
def X1_tries (Λ : Nat → Nat → (Nat → Int32) → Int32) (τ : Cs) (a1 : Int32) : Option (Cs) :=
  (loopO (X1_tries_L2 Λ a1) FU (τ, (0 : Int32))).bind fun e2 =>
  some e2
set_option maxHeartbeats 4000000 in
theorem mX1_tries (Λ : Nat → Nat → (Nat → Int32) → Int32) (Λn : Nat → Int32) (τ : Cs) (a1 : Int32) (τ' : Cs) (hf : X1_tries Λ τ a1 = some τ') : CMv yX1_tries cX1_tries 3 none 65 3114 Λ Λn (fun o aK aF => [.ref o, .int a1]) τ τ' := by
  refine CMv.of (by decide) (fun _ _ _ => Nat.le_of_ble_eq_true rfl) ?_
  intro p l e s m args below meth c D J o z aK aV G Ld aF Q ls hx hb hml hown hts hE hret hI hl
  obtain ⟨H, eH⟩ : ∃ H, H = s.heap := ⟨_, rfl⟩
  obtain ⟨locs, eL⟩ : ∃ L : List Loc, L = [] := ⟨_, rfl⟩
  rw [← eH, ← eL] at hI ⊢
  have hown : s.vm.findClass RX1 = some m.cls := hown
  have hl : lv_has ls 3 [(0, .ref o), (1, .int a1)] := hl
  unfold X1_tries at hf
  refine lv_iconst (v := (0 : Int32)) hx hb dX1_tries_0 (by decide) ?_
  refine lv_istore_n (lv' := [(2, .int (0 : Int32)), (0, .ref o), (1, .int a1)]) hx hb dX1_tries_1 rfl hl (by decide) rfl (fun ls hl => ?_)
  obtain ⟨e2, he2, hf⟩ := obd hf
  have hs2 : ∀ (c1 : Int32), ∀ (w2 : Cs × Int32) (o2 : (Cs × Int32) ⊕ (Cs)), X1_tries_L2 Λ c1 w2 = some o2 → (∀ wx_, o2 = .inl wx_ → ∀ (H : Heap) (locs : List Loc) (ls : Array Slot), IC D J o Ld s H locs wx_.1 → lv_has ls 3 [(0, .ref o), (1, .int c1), (2, .int wx_.2)] → W p l e ({ frames := 65, cells := 0, slots := 0, locals := 3114 } : Room) s m args below meth c H locs 0 0 Q (F0 m 2 ls [])) → (∀ ex_, o2 = .inr ex_ → ∀ (H : Heap) (locs : List Loc) (ls : Array Slot), IC D J o Ld s H locs ex_ → lv_has ls 3 [] → W p l e ({ frames := 65, cells := 0, slots := 0, locals := 3114 } : Room) s m args below meth c H locs 0 0 Q (F0 m 22 ls [])) → ∀ (H : Heap) (locs : List Loc) (ls : Array Slot), IC D J o Ld s H locs w2.1 → lv_has ls 3 [(0, .ref o), (1, .int c1), (2, .int w2.2)] → W p l e ({ frames := 65, cells := 0, slots := 0, locals := 3114 } : Room) s m args below meth c H locs 0 0 Q (F0 m 2 ls []) := by
    intro c1 w2 o2 hf hk hq H locs ls hI hl
    unfold X1_tries_L2 at hf
    refine lv_iload_n hx hb dX1_tries_2 rfl (lv_at hl 2 rfl) ?_
    refine lv_iload_n hx hb dX1_tries_3 rfl (lv_at hl 1 rfl) ?_
    refine lv_icmp_ge (tgt := 22) hx hb dX1_tries_4 (by decide) (fun hc => ?_) (fun hc => ?_)
    · replace hf := ipos hc hf
      exact hq _ (Option.some.inj hf).symm H locs ls hI (lv_sub hl [] rfl)
    · replace hf := ineg hc hf
      refine lv_aload_n hx hb dX1_tries_7 rfl (lv_at hl 0 rfl) ?_
      refine lv_aload_n hx hb dX1_tries_8 rfl (lv_at hl 0 rfl) ?_
      refine gget hx hb hts in_X1 hown hE.1.1 (hI.1.o 0 rfl) rfl 12 (by decide) q478 rfl dX1_tries_9 ?_
      obtain ⟨x12, ex12, hf⟩ := obd hf
      refine ccallI (rest := []) hx hb hts hown hE hI hml hl.1 (mX1_drawnSeason Λ Λn w2.1 4 (by decide) _ _ ex12) (cwX1_drawnSeason_X1 hts ⟨Nat.le_of_ble_eq_true rfl, Nat.le_of_ble_eq_true rfl⟩) (hI.1.o 0 rfl) rfl rfl ⟨Nat.le_of_ble_eq_true rfl, Nat.le_of_ble_eq_true rfl⟩ rfl rfl (lv_room (Nat.le_of_ble_eq_true rfl)) dX1_tries_12 (fun H locs hI => ?_)
      refine lv_pop hx hb dX1_tries_15 rfl ?_
      obtain ⟨v16, ev16, hf⟩ := obd hf
      refine lv_iinc (v := v16) (lv' := [(2, .int v16), (0, .ref o), (1, .int c1)]) hx hb dX1_tries_16 hl (k := 2) rfl (iiE ev16 (by decide)) (by decide) rfl (fun ls hl => ?_)
      refine lv_goto (tgt := 2) hx hb dX1_tries_19 (by decide) ?_
      exact hk _ (Option.some.inj hf).symm H locs ls hI (lv_sub hl [1, 2, 0] rfl)
  refine loopO_W (Wat := fun w2 => ∀ (H : Heap) (locs : List Loc) (ls : Array Slot), IC D J o Ld s H locs w2.1 → lv_has ls 3 [(0, .ref o), (1, .int a1), (2, .int w2.2)] → W p l e ({ frames := 65, cells := 0, slots := 0, locals := 3114 } : Room) s m args below meth c H locs 0 0 Q (F0 m 2 ls [])) (Wex := fun ex_ => ∀ (H : Heap) (locs : List Loc) (ls : Array Slot), IC D J o Ld s H locs ex_ → lv_has ls 3 [] → W p l e ({ frames := 65, cells := 0, slots := 0, locals := 3114 } : Room) s m args below meth c H locs 0 0 Q (F0 m 22 ls [])) (hs2 a1) FU _ e2 he2 ?_ H locs ls hI (lv_sub hl [1, 2, 0] rfl)
  · skip
    intro H locs ls hI hl
    exact hret H locs 22 ls ((Option.some.inj hf) ▸ hI) dX1_tries_22

def X1_ofLog (τ : Cs) (a1 : Int32) (a2 : Int32) : Option (Int32) :=
  (ld 240 (cw τ 0 27) (((4 : Int32) * a1) + a2)).bind fun x12 =>
  some x12
set_option maxHeartbeats 4000000 in
theorem mX1_ofLog (Λ : Nat → Nat → (Nat → Int32) → Int32) (Λn : Nat → Int32) (τ : Cs) (a1 : Int32) (a2 : Int32) (r : Int32) (hf : X1_ofLog τ a1 a2 = some r) : CMi yX1_ofLog cX1_ofLog 3 (some .int) 1 40 Λ Λn (fun o aK aF => [.ref o, .int a1, .int a2]) r τ τ := by
  refine CMi.of (by decide) (fun _ _ _ => Nat.le_of_ble_eq_true rfl) ?_
  intro p l e s m args below meth c D J o z aK aV G Ld aF Q ls hx hb hml hown hts hE hret hI hl
  obtain ⟨H, eH⟩ : ∃ H, H = s.heap := ⟨_, rfl⟩
  obtain ⟨locs, eL⟩ : ∃ L : List Loc, L = [] := ⟨_, rfl⟩
  rw [← eH, ← eL] at hI ⊢
  have hown : s.vm.findClass RX1 = some m.cls := hown
  have hl : lv_has ls 3 [(0, .ref o), (1, .int a1), (2, .int a2)] := hl
  unfold X1_ofLog at hf
  refine lv_aload_n hx hb dX1_ofLog_0 rfl (lv_at hl 0 rfl) ?_
  refine gget hx hb hts in_X1 hown hE.1.1 (hI.1.o 0 rfl) rfl 0 (by decide) q463 rfl dX1_ofLog_1 ?_
  refine ggetN hx hb hts in_X2 hown hE.1.1 (hI.1.w 0 (by decide) 0 rfl) rfl 27 (by decide) (hE.1.2.2.f 34 rfl) rfl dX1_ofLog_4 ?_
  refine lv_iconst (v := (4 : Int32)) hx hb dX1_ofLog_7 (by decide) ?_
  refine lv_iload_n hx hb dX1_ofLog_8 rfl (lv_at hl 1 rfl) ?_
  refine lv_imul hx hb dX1_ofLog_9 ?_
  refine lv_iload_n hx hb dX1_ofLog_10 rfl (lv_at hl 2 rfl) ?_
  refine lv_iadd hx hb dX1_ofLog_11 ?_
  obtain ⟨x12, ex12, hf⟩ := obd hf
  refine gald hx hb hE.1.1 0 (hI.1.w 0 (by decide) 19 rfl) rfl ex12 dX1_ofLog_12 ?_
  have hf := Option.some.inj hf
  rw [hf]
  exact hret H locs 13 ls hI dX1_ofLog_13

def X1_seed (τ : Cs) (a1 : Int32) : Option (Int32 × Cs) :=
  (some (cw τ 0 0 8)).bind fun v7 =>
  (some (cwu τ 0 (mup (cw τ 0) 0 8 a1))).bind fun t13 =>
  some (v7, t13)
set_option maxHeartbeats 4000000 in
theorem mX1_seed (Λ : Nat → Nat → (Nat → Int32) → Int32) (Λn : Nat → Int32) (τ : Cs) (a1 : Int32) (r : Int32) (τ' : Cs) (hf : X1_seed τ a1 = some (r, τ')) : CMi yX1_seed cX1_seed 3 (some .int) 1 40 Λ Λn (fun o aK aF => [.ref o, .int a1]) r τ τ' := by
  refine CMi.of (by decide) (fun _ _ _ => Nat.le_of_ble_eq_true rfl) ?_
  intro p l e s m args below meth c D J o z aK aV G Ld aF Q ls hx hb hml hown hts hE hret hI hl
  obtain ⟨H, eH⟩ : ∃ H, H = s.heap := ⟨_, rfl⟩
  obtain ⟨locs, eL⟩ : ∃ L : List Loc, L = [] := ⟨_, rfl⟩
  rw [← eH, ← eL] at hI ⊢
  have hown : s.vm.findClass RX1 = some m.cls := hown
  have hl : lv_has ls 3 [(0, .ref o), (1, .int a1)] := hl
  unfold X1_seed at hf
  refine lv_aload_n hx hb dX1_seed_0 rfl (lv_at hl 0 rfl) ?_
  refine gget hx hb hts in_X1 hown hE.1.1 (hI.1.o 0 rfl) rfl 0 (by decide) q463 rfl dX1_seed_1 ?_
  refine ggetN hx hb hts in_X2 hown hE.1.1 (hI.1.w 0 (by decide) 0 rfl) rfl 8 (by decide) (hE.1.2.2.f 10 rfl) rfl dX1_seed_4 ?_
  obtain ⟨v7, ev7, hf⟩ := obd hf
  refine nmI ev7 ?_
  refine lv_istore_n (lv' := [(2, .int v7), (0, .ref o), (1, .int a1)]) hx hb dX1_seed_7 rfl hl (by decide) rfl (fun ls hl => ?_)
  refine lv_aload_n hx hb dX1_seed_8 rfl (lv_at hl 1 rfl) ?_
  refine gget hx hb hts in_X1 hown hE.1.1 (hI.1.o 0 rfl) rfl 0 (by decide) q463 rfl dX1_seed_9 ?_
  refine lv_iload_n hx hb dX1_seed_12 rfl (lv_at hl 2 rfl) ?_
  obtain ⟨t13, et13, hf⟩ := obd hf
  refine gputN hx hb hts in_X2 tyX2 tyX2_ok nmX2 hown hE.1.1 (hI.1.w 0 (by decide) 0 rfl) rfl 8 (by decide) (hE.1.2.2.f 10 rfl) rfl rfl rfl (Nat.le_of_ble_eq_true rfl) dX1_seed_13 (fun H locs h1 h2 h3 h4 => ?_)
  have hI := hI.putW (k := 0) (P := 0) (w' := mup (cw τ 0) 0 8 a1) (by decide) rfl rfl h1 h2 h3 h4
  rw [Option.some.inj et13] at hI
  refine lv_iload_n hx hb dX1_seed_16 rfl (lv_at hl 0 rfl) ?_
  have hf := Prod.mk.inj (Option.some.inj hf)
  rw [hf.1]
  exact hret H locs 17 ls (hf.2 ▸ hI) dX1_seed_17

def X1_fault (τ : Cs) : Option (Int32) :=
  some (co τ 1 5)
set_option maxHeartbeats 4000000 in
theorem mX1_fault (Λ : Nat → Nat → (Nat → Int32) → Int32) (Λn : Nat → Int32) (τ : Cs) (r : Int32) (hf : X1_fault τ = some r) : CMi yX1_fault cX1_fault 1 (some .int) 1 40 Λ Λn (fun o aK aF => [.ref o]) r τ τ := by
  refine CMi.of (by decide) (fun _ _ _ => Nat.le_of_ble_eq_true rfl) ?_
  intro p l e s m args below meth c D J o z aK aV G Ld aF Q ls hx hb hml hown hts hE hret hI hl
  obtain ⟨H, eH⟩ : ∃ H, H = s.heap := ⟨_, rfl⟩
  obtain ⟨locs, eL⟩ : ∃ L : List Loc, L = [] := ⟨_, rfl⟩
  rw [← eH, ← eL] at hI ⊢
  have hown : s.vm.findClass RX1 = some m.cls := hown
  have hl : lv_has ls 1 [(0, .ref o)] := hl
  unfold X1_fault at hf
  refine lv_aload_n hx hb dX1_fault_0 rfl (lv_at hl 0 rfl) ?_
  refine gget hx hb hts in_X1 hown hE.1.1 (hI.1.o 0 rfl) rfl 4 (by decide) q469 rfl dX1_fault_1 ?_
  refine ggetN hx hb hts in_X3 hown hE.1.1 (hI.1.o 1 rfl) rfl 5 (by decide) (hE.1.2.2.f 39 rfl) rfl dX1_fault_4 ?_
  have hf := Option.some.inj hf
  rw [hf]
  exact hret H locs 7 ls hI dX1_fault_7

theorem cwX2_of_X5 {R : Room} {s : State} {args : Array Value} {fr lo : Nat} (hts : ∀ w ∈ lw_all, w.before args s = true) (hR : fr + 1 ≤ R.frames ∧ 8 + (4 + 11) + lo ≤ R.locals) : CallW R s args RX5 RX2 19 yX2_of cX2_of 4 (some .int) (ws_ yX2_of cX2_of 4 (some .int)) ({ frames := fr, cells := 0, slots := 0, locals := lo }) 0 0 1 :=
  cwV 1 hts (lw_V q1718 q531 q532 q134 q533) rfl rfl rfl (by decide +kernel) hR
theorem cwX2_isValid_X5 {R : Room} {s : State} {args : Array Value} {fr lo : Nat} (hts : ∀ w ∈ lw_all, w.before args s = true) (hR : fr + 1 ≤ R.frames ∧ 8 + (3 + 11) + lo ≤ R.locals) : CallW R s args RX5 RX2 33 yX2_isValid cX2_isValid 3 (some .boolean) (ws_ yX2_isValid cX2_isValid 3 (some .boolean)) ({ frames := fr, cells := 0, slots := 0, locals := lo }) 0 0 2 :=
  cwV 2 hts (lw_V q1725 q547 q548 q134 q549) rfl rfl rfl (by decide +kernel) hR
def X5_net_J32_118 (τ : Cs) (c1 : Int32) (c3 : Int32) (x5 : Int32) (y0 : Int32) (y1 : Int32) : Option ((Int32 × Int32) ⊕ (Int32)) :=
  (some (y1 + y0)).bind fun v119 =>
  (ld 8 (cw τ 0 17) x5).bind fun x135 =>
  if x135 = c1 then
    (ld 8 (cw τ 0 19) x5).bind fun x152 =>
    (some (v119 - x152)).bind fun v158_9 =>
    (some (x5 + (1 : Int32))).bind fun v160_10 =>
    some (.inl (v158_9, v160_10))
  else
    (some (v119 - (0 : Int32))).bind fun v158 =>
    (some (x5 + (1 : Int32))).bind fun v160 =>
    some (.inl (v158, v160))
def X5_net_L32 (τ : Cs) (c1 : Int32) (c3 : Int32) (w32 : Int32 × Int32) : Option ((Int32 × Int32) ⊕ (Int32)) :=
  if (cw τ 0 0 3) ≤ w32.2 then
    some (.inr w32.1)
  else
    (ld 8 (cw τ 0 15) w32.2).bind fun x59 =>
    if x59 = (0 : Int32) then
      (X2_isValid (cw τ 0) w32.2 c3).bind fun x73 =>
      if x73 = (0 : Int32) then
        (some (w32.2 + (1 : Int32))).bind fun v160_16 =>
        some (.inl (w32.1, v160_16))
      else
        (ld 8 (cw τ 0 18) w32.2).bind fun x96 =>
        if x96 = c1 then
          (ld 8 (cw τ 0 19) w32.2).bind fun x113 =>
          X5_net_J32_118 τ c1 c3 w32.2 x113 w32.1
        else
          X5_net_J32_118 τ c1 c3 w32.2 (0 : Int32) w32.1
    else
      (some (w32.2 + (1 : Int32))).bind fun v160_12 =>
      some (.inl (w32.1, v160_12))
def X5_net (τ : Cs) (a1 : Int32) (a2 : Int32) : Option (Int32) :=
  (X2_of (cw τ 0) (1 : Int32)).bind fun x8 =>
  (X2_of (cw τ 0) (0 : Int32)).bind fun x20 =>
  (some (x8 ||| (a2 &&& x20))).bind fun v25 =>
  (loopO (X5_net_L32 τ a1 v25) FU ((0 : Int32), (0 : Int32))).bind fun e32 =>
  some e32
set_option maxHeartbeats 4000000 in
theorem mX5_net (Λ : Nat → Nat → (Nat → Int32) → Int32) (Λn : Nat → Int32) (τ : Cs) (a1 : Int32) (a2 : Int32) (r : Int32) (hf : X5_net τ a1 a2 = some r) : CMi yX5_net cX5_net 6 (some .int) 3 83 Λ Λn (fun o aK aF => [.ref (o + 84), .int a1, .int a2]) r τ τ := by
  refine CMi.of (by decide) (fun _ _ _ => Nat.le_of_ble_eq_true rfl) ?_
  intro p l e s m args below meth c D J o z aK aV G Ld aF Q ls hx hb hml hown hts hE hret hI hl
  obtain ⟨H, eH⟩ : ∃ H, H = s.heap := ⟨_, rfl⟩
  obtain ⟨locs, eL⟩ : ∃ L : List Loc, L = [] := ⟨_, rfl⟩
  rw [← eH, ← eL] at hI ⊢
  have hown : s.vm.findClass RX5 = some m.cls := hown
  have hl : lv_has ls 6 [(0, .ref (o + 84)), (1, .int a1), (2, .int a2)] := hl
  unfold X5_net at hf
  refine lv_aload_n hx hb dX5_net_0 rfl (lv_at hl 0 rfl) ?_
  refine gget hx hb hts in_X5 hown hE.1.1 (hI.1.o 4 rfl) rfl 4 (by decide) q409 rfl dX5_net_1 ?_
  refine ggetN hx hb hts in_X1 hown hE.1.1 (hI.1.o 0 rfl) rfl 0 (by decide) (hE.1.2.2.f 54 rfl) rfl dX5_net_4 ?_
  refine lv_iconst (v := (1 : Int32)) hx hb dX5_net_7 (by decide) ?_
  obtain ⟨x8, ex8, hf⟩ := obd hf
  refine cworldI (rest := []) hx hb hts hown hE hI hml hl.1 (mX2_of (cw τ 0) (1 : Int32) _ ex8) (by decide) (cwX2_of_X5 hts ⟨Nat.le_of_ble_eq_true rfl, Nat.le_of_ble_eq_true rfl⟩) (congrArg some (cwu_self τ 0)) ⟨Nat.le_of_ble_eq_true rfl, Nat.le_of_ble_eq_true rfl⟩ rfl rfl (lv_room (Nat.le_of_ble_eq_true rfl)) dX5_net_8 (fun H locs hI => ?_)
  refine lv_iload_n hx hb dX5_net_11 rfl (lv_at hl 2 rfl) ?_
  refine lv_aload_n hx hb dX5_net_12 rfl (lv_at hl 0 rfl) ?_
  refine gget hx hb hts in_X5 hown hE.1.1 (hI.1.o 4 rfl) rfl 4 (by decide) q409 rfl dX5_net_13 ?_
  refine ggetN hx hb hts in_X1 hown hE.1.1 (hI.1.o 0 rfl) rfl 0 (by decide) (hE.1.2.2.f 54 rfl) rfl dX5_net_16 ?_
  refine lv_iconst (v := (0 : Int32)) hx hb dX5_net_19 (by decide) ?_
  obtain ⟨x20, ex20, hf⟩ := obd hf
  refine cworldI (rest := [.int a2, .int x8]) hx hb hts hown hE hI hml hl.1 (mX2_of (cw τ 0) (0 : Int32) _ ex20) (by decide) (cwX2_of_X5 hts ⟨Nat.le_of_ble_eq_true rfl, Nat.le_of_ble_eq_true rfl⟩) (congrArg some (cwu_self τ 0)) ⟨Nat.le_of_ble_eq_true rfl, Nat.le_of_ble_eq_true rfl⟩ rfl rfl (lv_room (Nat.le_of_ble_eq_true rfl)) dX5_net_20 (fun H locs hI => ?_)
  refine lv_iand hx hb dX5_net_23 ?_
  refine lv_ior hx hb dX5_net_24 ?_
  obtain ⟨v25, ev25, hf⟩ := obd hf
  refine nmI ev25 ?_
  refine lv_istore_n (lv' := [(3, .int v25), (0, .ref (o + 84)), (1, .int a1), (2, .int a2)]) hx hb dX5_net_25 rfl hl (by decide) rfl (fun ls hl => ?_)
  refine lv_iconst (v := (0 : Int32)) hx hb dX5_net_26 (by decide) ?_
  refine lv_istore (lv' := [(4, .int (0 : Int32)), (3, .int v25), (0, .ref (o + 84)), (1, .int a1), (2, .int a2)]) hx hb dX5_net_27 hl (by decide) rfl (fun ls hl => ?_)
  refine lv_iconst (v := (0 : Int32)) hx hb dX5_net_29 (by decide) ?_
  refine lv_istore (lv' := [(5, .int (0 : Int32)), (4, .int (0 : Int32)), (3, .int v25), (0, .ref (o + 84)), (1, .int a1), (2, .int a2)]) hx hb dX5_net_30 hl (by decide) rfl (fun ls hl => ?_)
  obtain ⟨e32, he32, hf⟩ := obd hf
  have hs32 : ∀ (c1 : Int32) (c3 : Int32), ∀ (w32 : Int32 × Int32) (o32 : (Int32 × Int32) ⊕ (Int32)), X5_net_L32 τ c1 c3 w32 = some o32 → (∀ wx_, o32 = .inl wx_ → ∀ (H : Heap) (locs : List Loc) (ls : Array Slot), IC D J o Ld s H locs τ → lv_has ls 6 [(0, .ref (o + 84)), (1, .int c1), (3, .int c3), (4, .int wx_.1), (5, .int wx_.2)] → W p l e ({ frames := 3, cells := 0, slots := 0, locals := 83 } : Room) s m args below meth c H locs 0 0 Q (F0 m 32 ls [])) → (∀ ex_, o32 = .inr ex_ → ∀ (H : Heap) (locs : List Loc) (ls : Array Slot), IC D J o Ld s H locs τ → lv_has ls 6 [(4, .int ex_)] → W p l e ({ frames := 3, cells := 0, slots := 0, locals := 83 } : Room) s m args below meth c H locs 0 0 Q (F0 m 166 ls [])) → ∀ (H : Heap) (locs : List Loc) (ls : Array Slot), IC D J o Ld s H locs τ → lv_has ls 6 [(0, .ref (o + 84)), (1, .int c1), (3, .int c3), (4, .int w32.1), (5, .int w32.2)] → W p l e ({ frames := 3, cells := 0, slots := 0, locals := 83 } : Room) s m args below meth c H locs 0 0 Q (F0 m 32 ls []) := by
    intro c1 c3 w32 o32 hf hk hq H locs ls hI hl
    unfold X5_net_L32 at hf
    have hJ118 : ∀ (x5 : Int32) (y0 : Int32) (y1 : Int32) (H : Heap) (locs : List Loc) (ls : Array Slot), X5_net_J32_118 τ c1 c3 x5 y0 y1 = some o32 → IC D J o Ld s H locs τ → lv_has ls 6 [(0, .ref (o + 84)), (1, .int c1), (3, .int c3), (5, .int x5)] → W p l e ({ frames := 3, cells := 0, slots := 0, locals := 83 } : Room) s m args below meth c H locs 0 0 Q (F0 m 118 ls [.int y0, .int y1]) := by
      intro x5 y0 y1 H locs ls hf hI hl
      unfold X5_net_J32_118 at hf
      refine lv_iadd hx hb dX5_net_118 ?_
      obtain ⟨v119, ev119, hf⟩ := obd hf
      refine nmI ev119 ?_
      refine lv_istore (lv' := [(4, .int v119), (0, .ref (o + 84)), (1, .int c1), (3, .int c3), (5, .int x5)]) hx hb dX5_net_119 hl (by decide) rfl (fun ls hl => ?_)
      refine lv_iload hx hb dX5_net_121 (lv_at hl 0 rfl) ?_
      refine lv_aload_n hx hb dX5_net_123 rfl (lv_at hl 1 rfl) ?_
      refine gget hx hb hts in_X5 hown hE.1.1 (hI.1.o 4 rfl) rfl 4 (by decide) q409 rfl dX5_net_124 ?_
      refine ggetN hx hb hts in_X1 hown hE.1.1 (hI.1.o 0 rfl) rfl 0 (by decide) (hE.1.2.2.f 54 rfl) rfl dX5_net_127 ?_
      refine ggetN hx hb hts in_X2 hown hE.1.1 (hI.1.w 0 (by decide) 0 rfl) rfl 17 (by decide) (hE.1.2.2.f 21 rfl) rfl dX5_net_130 ?_
      refine lv_iload hx hb dX5_net_133 (lv_at hl 4 rfl) ?_
      obtain ⟨x135, ex135, hf⟩ := obd hf
      refine gald hx hb hE.1.1 0 (hI.1.w 0 (by decide) 9 rfl) rfl ex135 dX5_net_135 ?_
      refine lv_iload_n hx hb dX5_net_136 rfl (lv_at hl 2 rfl) ?_
      refine lv_icmp_ne (tgt := 156) hx hb dX5_net_137 (by decide) (fun hc => ?_) (fun hc => ?_)
      · replace hf := ineg hc hf
        refine lv_iconst (v := (0 : Int32)) hx hb dX5_net_156 (by decide) ?_
        refine lv_isub hx hb dX5_net_157 ?_
        obtain ⟨v158, ev158, hf⟩ := obd hf
        refine nmI ev158 ?_
        refine lv_istore (lv' := [(4, .int v158), (0, .ref (o + 84)), (1, .int c1), (3, .int c3), (5, .int x5)]) hx hb dX5_net_158 hl (by decide) rfl (fun ls hl => ?_)
        obtain ⟨v160, ev160, hf⟩ := obd hf
        refine lv_iinc (v := v160) (lv' := [(5, .int v160), (4, .int v158), (0, .ref (o + 84)), (1, .int c1), (3, .int c3)]) hx hb dX5_net_160 hl (k := 4) rfl (iiE ev160 (by decide)) (by decide) rfl (fun ls hl => ?_)
        refine lv_goto (tgt := 32) hx hb dX5_net_163 (by decide) ?_
        exact hk _ (Option.some.inj hf).symm H locs ls hI (lv_sub hl [2, 3, 4, 1, 0] rfl)
      · replace hf := ipos hc hf
        refine lv_aload_n hx hb dX5_net_140 rfl (lv_at hl 1 rfl) ?_
        refine gget hx hb hts in_X5 hown hE.1.1 (hI.1.o 4 rfl) rfl 4 (by decide) q409 rfl dX5_net_141 ?_
        refine ggetN hx hb hts in_X1 hown hE.1.1 (hI.1.o 0 rfl) rfl 0 (by decide) (hE.1.2.2.f 54 rfl) rfl dX5_net_144 ?_
        refine ggetN hx hb hts in_X2 hown hE.1.1 (hI.1.w 0 (by decide) 0 rfl) rfl 19 (by decide) (hE.1.2.2.f 25 rfl) rfl dX5_net_147 ?_
        refine lv_iload hx hb dX5_net_150 (lv_at hl 4 rfl) ?_
        obtain ⟨x152, ex152, hf⟩ := obd hf
        refine gald hx hb hE.1.1 0 (hI.1.w 0 (by decide) 11 rfl) rfl ex152 dX5_net_152 ?_
        refine lv_goto (tgt := 157) hx hb dX5_net_153 (by decide) ?_
        refine lv_isub hx hb dX5_net_157 ?_
        obtain ⟨v158_9, ev158_9, hf⟩ := obd hf
        refine nmI ev158_9 ?_
        refine lv_istore (lv' := [(4, .int v158_9), (0, .ref (o + 84)), (1, .int c1), (3, .int c3), (5, .int x5)]) hx hb dX5_net_158 hl (by decide) rfl (fun ls hl => ?_)
        obtain ⟨v160_10, ev160_10, hf⟩ := obd hf
        refine lv_iinc (v := v160_10) (lv' := [(5, .int v160_10), (4, .int v158_9), (0, .ref (o + 84)), (1, .int c1), (3, .int c3)]) hx hb dX5_net_160 hl (k := 4) rfl (iiE ev160_10 (by decide)) (by decide) rfl (fun ls hl => ?_)
        refine lv_goto (tgt := 32) hx hb dX5_net_163 (by decide) ?_
        exact hk _ (Option.some.inj hf).symm H locs ls hI (lv_sub hl [2, 3, 4, 1, 0] rfl)
    refine lv_iload hx hb dX5_net_32 (lv_at hl 4 rfl) ?_
    refine lv_aload_n hx hb dX5_net_34 rfl (lv_at hl 0 rfl) ?_
    refine gget hx hb hts in_X5 hown hE.1.1 (hI.1.o 4 rfl) rfl 4 (by decide) q409 rfl dX5_net_35 ?_
    refine ggetN hx hb hts in_X1 hown hE.1.1 (hI.1.o 0 rfl) rfl 0 (by decide) (hE.1.2.2.f 54 rfl) rfl dX5_net_38 ?_
    refine ggetN hx hb hts in_X2 hown hE.1.1 (hI.1.w 0 (by decide) 0 rfl) rfl 3 (by decide) (hE.1.2.2.f 4 rfl) rfl dX5_net_41 ?_
    refine lv_icmp_ge (tgt := 166) hx hb dX5_net_44 (by decide) (fun hc => ?_) (fun hc => ?_)
    · replace hf := ipos hc hf
      exact hq _ (Option.some.inj hf).symm H locs ls hI (lv_sub hl [3] rfl)
    · replace hf := ineg hc hf
      refine lv_aload_n hx hb dX5_net_47 rfl (lv_at hl 0 rfl) ?_
      refine gget hx hb hts in_X5 hown hE.1.1 (hI.1.o 4 rfl) rfl 4 (by decide) q409 rfl dX5_net_48 ?_
      refine ggetN hx hb hts in_X1 hown hE.1.1 (hI.1.o 0 rfl) rfl 0 (by decide) (hE.1.2.2.f 54 rfl) rfl dX5_net_51 ?_
      refine ggetN hx hb hts in_X2 hown hE.1.1 (hI.1.w 0 (by decide) 0 rfl) rfl 15 (by decide) (hE.1.2.2.f 18 rfl) rfl dX5_net_54 ?_
      refine lv_iload hx hb dX5_net_57 (lv_at hl 4 rfl) ?_
      obtain ⟨x59, ex59, hf⟩ := obd hf
      refine gzld hx hb hE.1.1 1 (hI.1.w 0 (by decide) 7 rfl) rfl ex59 dX5_net_59 ?_
      refine lv_if_ne (tgt := 160) hx hb dX5_net_60 (by decide) (fun hc => ?_) (fun hc => ?_)
      · replace hf := ineg hc hf
        obtain ⟨v160_12, ev160_12, hf⟩ := obd hf
        refine lv_iinc (v := v160_12) (lv' := [(5, .int v160_12), (0, .ref (o + 84)), (1, .int c1), (3, .int c3), (4, .int w32.1)]) hx hb dX5_net_160 hl (k := 4) rfl (iiE ev160_12 (by decide)) (by decide) rfl (fun ls hl => ?_)
        refine lv_goto (tgt := 32) hx hb dX5_net_163 (by decide) ?_
        exact hk _ (Option.some.inj hf).symm H locs ls hI (lv_sub hl [1, 2, 3, 4, 0] rfl)
      · replace hf := ipos hc hf
        refine lv_aload_n hx hb dX5_net_63 rfl (lv_at hl 0 rfl) ?_
        refine gget hx hb hts in_X5 hown hE.1.1 (hI.1.o 4 rfl) rfl 4 (by decide) q409 rfl dX5_net_64 ?_
        refine ggetN hx hb hts in_X1 hown hE.1.1 (hI.1.o 0 rfl) rfl 0 (by decide) (hE.1.2.2.f 54 rfl) rfl dX5_net_67 ?_
        refine lv_iload hx hb dX5_net_70 (lv_at hl 4 rfl) ?_
        refine lv_iload_n hx hb dX5_net_72 rfl (lv_at hl 2 rfl) ?_
        obtain ⟨x73, ex73, hf⟩ := obd hf
        refine cworldI (rest := []) hx hb hts hown hE hI hml hl.1 (mX2_isValid (cw τ 0) w32.2 c3 _ ex73) (by decide) (cwX2_isValid_X5 hts ⟨Nat.le_of_ble_eq_true rfl, Nat.le_of_ble_eq_true rfl⟩) (congrArg some (cwu_self τ 0)) ⟨Nat.le_of_ble_eq_true rfl, Nat.le_of_ble_eq_true rfl⟩ rfl rfl (lv_room (Nat.le_of_ble_eq_true rfl)) dX5_net_73 (fun H locs hI => ?_)
        refine lv_if_ne (tgt := 82) hx hb dX5_net_76 (by decide) (fun hc => ?_) (fun hc => ?_)
        · replace hf := ineg hc hf
          refine lv_iload hx hb dX5_net_82 (lv_at hl 3 rfl) ?_
          refine lv_aload_n hx hb dX5_net_84 rfl (lv_at hl 0 rfl) ?_
          refine gget hx hb hts in_X5 hown hE.1.1 (hI.1.o 4 rfl) rfl 4 (by decide) q409 rfl dX5_net_85 ?_
          refine ggetN hx hb hts in_X1 hown hE.1.1 (hI.1.o 0 rfl) rfl 0 (by decide) (hE.1.2.2.f 54 rfl) rfl dX5_net_88 ?_
          refine ggetN hx hb hts in_X2 hown hE.1.1 (hI.1.w 0 (by decide) 0 rfl) rfl 18 (by decide) (hE.1.2.2.f 23 rfl) rfl dX5_net_91 ?_
          refine lv_iload hx hb dX5_net_94 (lv_at hl 4 rfl) ?_
          obtain ⟨x96, ex96, hf⟩ := obd hf
          refine gald hx hb hE.1.1 0 (hI.1.w 0 (by decide) 10 rfl) rfl ex96 dX5_net_96 ?_
          refine lv_iload_n hx hb dX5_net_97 rfl (lv_at hl 1 rfl) ?_
          refine lv_icmp_ne (tgt := 117) hx hb dX5_net_98 (by decide) (fun hc => ?_) (fun hc => ?_)
          · replace hf := ineg hc hf
            refine lv_iconst (v := (0 : Int32)) hx hb dX5_net_117 (by decide) ?_
            exact hJ118 w32.2 (0 : Int32) w32.1 H locs ls hf hI  (lv_sub hl [0, 1, 2, 4] rfl)
          · replace hf := ipos hc hf
            refine lv_aload_n hx hb dX5_net_101 rfl (lv_at hl 0 rfl) ?_
            refine gget hx hb hts in_X5 hown hE.1.1 (hI.1.o 4 rfl) rfl 4 (by decide) q409 rfl dX5_net_102 ?_
            refine ggetN hx hb hts in_X1 hown hE.1.1 (hI.1.o 0 rfl) rfl 0 (by decide) (hE.1.2.2.f 54 rfl) rfl dX5_net_105 ?_
            refine ggetN hx hb hts in_X2 hown hE.1.1 (hI.1.w 0 (by decide) 0 rfl) rfl 19 (by decide) (hE.1.2.2.f 25 rfl) rfl dX5_net_108 ?_
            refine lv_iload hx hb dX5_net_111 (lv_at hl 4 rfl) ?_
            obtain ⟨x113, ex113, hf⟩ := obd hf
            refine gald hx hb hE.1.1 0 (hI.1.w 0 (by decide) 11 rfl) rfl ex113 dX5_net_113 ?_
            refine lv_goto (tgt := 118) hx hb dX5_net_114 (by decide) ?_
            exact hJ118 w32.2 x113 w32.1 H locs ls hf hI  (lv_sub hl [0, 1, 2, 4] rfl)
        · replace hf := ipos hc hf
          refine lv_goto (tgt := 160) hx hb dX5_net_79 (by decide) ?_
          obtain ⟨v160_16, ev160_16, hf⟩ := obd hf
          refine lv_iinc (v := v160_16) (lv' := [(5, .int v160_16), (0, .ref (o + 84)), (1, .int c1), (3, .int c3), (4, .int w32.1)]) hx hb dX5_net_160 hl (k := 4) rfl (iiE ev160_16 (by decide)) (by decide) rfl (fun ls hl => ?_)
          refine lv_goto (tgt := 32) hx hb dX5_net_163 (by decide) ?_
          exact hk _ (Option.some.inj hf).symm H locs ls hI (lv_sub hl [1, 2, 3, 4, 0] rfl)
  refine loopO_W (Wat := fun w32 => ∀ (H : Heap) (locs : List Loc) (ls : Array Slot), IC D J o Ld s H locs τ → lv_has ls 6 [(0, .ref (o + 84)), (1, .int a1), (3, .int v25), (4, .int w32.1), (5, .int w32.2)] → W p l e ({ frames := 3, cells := 0, slots := 0, locals := 83 } : Room) s m args below meth c H locs 0 0 Q (F0 m 32 ls [])) (Wex := fun ex_ => ∀ (H : Heap) (locs : List Loc) (ls : Array Slot), IC D J o Ld s H locs τ → lv_has ls 6 [(4, .int ex_)] → W p l e ({ frames := 3, cells := 0, slots := 0, locals := 83 } : Room) s m args below meth c H locs 0 0 Q (F0 m 166 ls [])) (hs32 a1 v25) FU _ e32 he32 ?_ H locs ls hI (lv_sub hl [3, 4, 2, 1, 0] rfl)
  · skip
    intro H locs ls hI hl
    refine lv_iload hx hb dX5_net_166 (lv_at hl 0 rfl) ?_
    have hf := Option.some.inj hf
    rw [hf]
    exact hret H locs 168 ls hI dX5_net_168

theorem cwX5_net_X5 {R : Room} {s : State} {args : Array Value} {fr lo : Nat} (hts : ∀ w ∈ lw_all, w.before args s = true) (hR : fr + 1 ≤ R.frames ∧ 8 + (6 + 11) + lo ≤ R.locals) : CallW R s args RX5 RX5 61 yX5_net cX5_net 6 (some .int) (ws_ yX5_net cX5_net 6 (some .int)) ({ frames := fr, cells := 0, slots := 0, locals := lo }) 0 0 2 :=
  cwV 2 hts (lw_V q1721 q1722 q1723 q138 q1724) rfl rfl rfl (by decide +kernel) hR
def X5_of_J36_78 (τ : Cs) (c1 : Int32) (c2 : Int32) (x3 : Int32) (x4 : Int32) (y0 : Int32) : Option ((Cs × Int32) ⊕ (Cs)) :=
  (some (cou τ (mup (co τ) 4 2 y0))).bind fun t78 =>
  (some (cou t78 (mup (co t78) 4 1 (if (co t78 4 1) < x4 then x4 else (co t78 4 1))))).bind fun t91 =>
  (some (cou t91 (mup (co t91) 4 0 (if x4 < (co t91 4 0) then x4 else (co t91 4 0))))).bind fun t104 =>
  (some (cqu t104 ((cq t104) + (x4.toInt64)))).bind fun t116 =>
  (some (x3 + (1 : Int32))).bind fun v119 =>
  some (.inl (t116, v119))
def X5_of_L36 (c1 : Int32) (c2 : Int32) (w36 : Cs × Int32) : Option ((Cs × Int32) ⊕ (Cs)) :=
  if c2 < w36.2 then
    some (.inr w36.1)
  else
    if (w36.2 &&& (c2 ^^^ (-1 : Int32))) = (0 : Int32) then
      (X5_net w36.1 c1 w36.2).bind fun x55 =>
      if x55 ≤ (co w36.1 4 1) then
        X5_of_J36_78 w36.1 c1 c2 w36.2 x55 (co w36.1 4 2)
      else
        X5_of_J36_78 w36.1 c1 c2 w36.2 x55 w36.2
    else
      (some (w36.2 + (1 : Int32))).bind fun v119_12 =>
      some (.inl (w36.1, v119_12))
def X5_of (τ : Cs) (a1 : Int32) : Option (Cs) :=
  (X2_of (cw τ 0) (0 : Int32)).bind fun x8 =>
  (some (cou τ (mup (co τ) 4 0 (100000000 : Int32)))).bind fun t15 =>
  (some (cou t15 (mup (co t15) 4 1 (-100000000 : Int32)))).bind fun t21 =>
  (some (cou t21 (mup (co t21) 4 2 (0 : Int32)))).bind fun t26 =>
  (some (cqu t26 (0 : Int64))).bind fun t31 =>
  (loopO (X5_of_L36 a1 x8) FU (t31, (0 : Int32))).bind fun e36 =>
  some e36
set_option maxHeartbeats 4000000 in
theorem mX5_of (Λ : Nat → Nat → (Nat → Int32) → Int32) (Λn : Nat → Int32) (τ : Cs) (a1 : Int32) (τ' : Cs) (hf : X5_of τ a1 = some τ') : CMr yX5_of cX5_of 5 (some (.object "LateInks$Readings")) 4 108 Λ Λn (fun o aK aF => [.ref (o + 84), .int a1]) (fun o => o + 84) τ τ' := by
  refine CMr.of (by decide) (fun _ _ _ => Nat.le_of_ble_eq_true rfl) ?_
  intro p l e s m args below meth c D J o z aK aV G Ld aF Q ls hx hb hml hown hts hE hret hI hl
  obtain ⟨H, eH⟩ : ∃ H, H = s.heap := ⟨_, rfl⟩
  obtain ⟨locs, eL⟩ : ∃ L : List Loc, L = [] := ⟨_, rfl⟩
  rw [← eH, ← eL] at hI ⊢
  have hown : s.vm.findClass RX5 = some m.cls := hown
  have hl : lv_has ls 5 [(0, .ref (o + 84)), (1, .int a1)] := hl
  unfold X5_of at hf
  refine lv_aload_n hx hb dX5_of_0 rfl (lv_at hl 0 rfl) ?_
  refine gget hx hb hts in_X5 hown hE.1.1 (hI.1.o 4 rfl) rfl 4 (by decide) q409 rfl dX5_of_1 ?_
  refine ggetN hx hb hts in_X1 hown hE.1.1 (hI.1.o 0 rfl) rfl 0 (by decide) (hE.1.2.2.f 54 rfl) rfl dX5_of_4 ?_
  refine lv_iconst (v := (0 : Int32)) hx hb dX5_of_7 (by decide) ?_
  obtain ⟨x8, ex8, hf⟩ := obd hf
  refine cworldI (rest := []) hx hb hts hown hE hI hml hl.1 (mX2_of (cw τ 0) (0 : Int32) _ ex8) (by decide) (cwX2_of_X5 hts ⟨Nat.le_of_ble_eq_true rfl, Nat.le_of_ble_eq_true rfl⟩) (congrArg some (cwu_self τ 0)) ⟨Nat.le_of_ble_eq_true rfl, Nat.le_of_ble_eq_true rfl⟩ rfl rfl (lv_room (Nat.le_of_ble_eq_true rfl)) dX5_of_8 (fun H locs hI => ?_)
  refine lv_istore_n (lv' := [(2, .int x8), (0, .ref (o + 84)), (1, .int a1)]) hx hb dX5_of_11 rfl hl (by decide) rfl (fun ls hl => ?_)
  refine lv_aload_n hx hb dX5_of_12 rfl (lv_at hl 1 rfl) ?_
  refine lv_ldc hx hb hown (hts _ q1719) dX5_of_13 ?_
  obtain ⟨t15, et15, hf⟩ := obd hf
  refine gput hx hb hts in_X5 tyX5 tyX5_ok nmX5 hown hE.1.1 (hI.1.o 4 rfl) rfl 0 (by decide) q402 rfl rfl rfl (Nat.le_of_ble_eq_true rfl) dX5_of_15 (fun H locs h1 h2 h3 h4 => ?_)
  have hI := hI.putO (σ' := cou τ (mup (co τ) 4 0 (100000000 : Int32))) (P := 4) rfl rfl ⟨rfl, rfl⟩ h1 h2 h3 h4
  rw [Option.some.inj et15] at hI
  refine lv_aload_n hx hb dX5_of_18 rfl (lv_at hl 1 rfl) ?_
  refine lv_ldc hx hb hown (hts _ q1720) dX5_of_19 ?_
  obtain ⟨t21, et21, hf⟩ := obd hf
  refine gput hx hb hts in_X5 tyX5 tyX5_ok nmX5 hown hE.1.1 (hI.1.o 4 rfl) rfl 1 (by decide) q404 rfl rfl rfl (Nat.le_of_ble_eq_true rfl) dX5_of_21 (fun H locs h1 h2 h3 h4 => ?_)
  have hI := hI.putO (σ' := cou t15 (mup (co t15) 4 1 (-100000000 : Int32))) (P := 4) rfl rfl ⟨rfl, rfl⟩ h1 h2 h3 h4
  rw [Option.some.inj et21] at hI
  refine lv_aload_n hx hb dX5_of_24 rfl (lv_at hl 1 rfl) ?_
  refine lv_iconst (v := (0 : Int32)) hx hb dX5_of_25 (by decide) ?_
  obtain ⟨t26, et26, hf⟩ := obd hf
  refine gput hx hb hts in_X5 tyX5 tyX5_ok nmX5 hown hE.1.1 (hI.1.o 4 rfl) rfl 2 (by decide) q406 rfl rfl rfl (Nat.le_of_ble_eq_true rfl) dX5_of_26 (fun H locs h1 h2 h3 h4 => ?_)
  have hI := hI.putO (σ' := cou t21 (mup (co t21) 4 2 (0 : Int32))) (P := 4) rfl rfl ⟨rfl, rfl⟩ h1 h2 h3 h4
  rw [Option.some.inj et26] at hI
  refine lv_aload_n hx hb dX5_of_29 rfl (lv_at hl 1 rfl) ?_
  refine lv_lconst (v := (0 : Int64)) hx hb dX5_of_30 (by decide) ?_
  obtain ⟨t31, et31, hf⟩ := obd hf
  refine gput hx hb hts in_X5 tyX5 tyX5_ok nmX5 hown hE.1.1 (hI.1.o 4 rfl) rfl 3 (by decide) q408 rfl rfl rfl (Nat.le_of_ble_eq_true rfl) dX5_of_31 (fun H locs h1 h2 h3 h4 => ?_)
  have hI := hI.putO (σ' := cqu t26 (0 : Int64)) (P := 4) rfl rfl ⟨rfl, rfl⟩ h1 h2 h3 h4
  rw [Option.some.inj et31] at hI
  refine lv_iconst (v := (0 : Int32)) hx hb dX5_of_34 (by decide) ?_
  refine lv_istore_n (lv' := [(3, .int (0 : Int32)), (2, .int x8), (0, .ref (o + 84)), (1, .int a1)]) hx hb dX5_of_35 rfl hl (by decide) rfl (fun ls hl => ?_)
  obtain ⟨e36, he36, hf⟩ := obd hf
  have hs36 : ∀ (c1 : Int32) (c2 : Int32), ∀ (w36 : Cs × Int32) (o36 : (Cs × Int32) ⊕ (Cs)), X5_of_L36 c1 c2 w36 = some o36 → (∀ wx_, o36 = .inl wx_ → ∀ (H : Heap) (locs : List Loc) (ls : Array Slot), IC D J o Ld s H locs wx_.1 → lv_has ls 5 [(0, .ref (o + 84)), (1, .int c1), (2, .int c2), (3, .int wx_.2)] → W p l e ({ frames := 4, cells := 0, slots := 0, locals := 108 } : Room) s m args below meth c H locs 0 0 Q (F0 m 36 ls [])) → (∀ ex_, o36 = .inr ex_ → ∀ (H : Heap) (locs : List Loc) (ls : Array Slot), IC D J o Ld s H locs ex_ → lv_has ls 5 [(0, .ref (o + 84))] → W p l e ({ frames := 4, cells := 0, slots := 0, locals := 108 } : Room) s m args below meth c H locs 0 0 Q (F0 m 125 ls [])) → ∀ (H : Heap) (locs : List Loc) (ls : Array Slot), IC D J o Ld s H locs w36.1 → lv_has ls 5 [(0, .ref (o + 84)), (1, .int c1), (2, .int c2), (3, .int w36.2)] → W p l e ({ frames := 4, cells := 0, slots := 0, locals := 108 } : Room) s m args below meth c H locs 0 0 Q (F0 m 36 ls []) := by
    intro c1 c2 w36 o36 hf hk hq H locs ls hI hl
    unfold X5_of_L36 at hf
    have hJ78 : ∀ (τ : Cs) (x3 : Int32) (x4 : Int32) (y0 : Int32) (H : Heap) (locs : List Loc) (ls : Array Slot), X5_of_J36_78 τ c1 c2 x3 x4 y0 = some o36 → IC D J o Ld s H locs τ → lv_has ls 5 [(0, .ref (o + 84)), (1, .int c1), (2, .int c2), (3, .int x3), (4, .int x4)] → W p l e ({ frames := 4, cells := 0, slots := 0, locals := 108 } : Room) s m args below meth c H locs 0 0 Q (F0 m 78 ls [.int y0, .ref (o + 84)]) := by
      intro τ x3 x4 y0 H locs ls hf hI hl
      unfold X5_of_J36_78 at hf
      obtain ⟨t78, et78, hf⟩ := obd hf
      refine gput hx hb hts in_X5 tyX5 tyX5_ok nmX5 hown hE.1.1 (hI.1.o 4 rfl) rfl 2 (by decide) q406 rfl rfl rfl (Nat.le_of_ble_eq_true rfl) dX5_of_78 (fun H locs h1 h2 h3 h4 => ?_)
      have hI := hI.putO (σ' := cou τ (mup (co τ) 4 2 y0)) (P := 4) rfl rfl ⟨rfl, rfl⟩ h1 h2 h3 h4
      rw [Option.some.inj et78] at hI
      refine lv_aload_n hx hb dX5_of_81 rfl (lv_at hl 0 rfl) ?_
      refine lv_aload_n hx hb dX5_of_82 rfl (lv_at hl 0 rfl) ?_
      refine gget hx hb hts in_X5 hown hE.1.1 (hI.1.o 4 rfl) rfl 1 (by decide) q404 rfl dX5_of_83 ?_
      refine lv_iload hx hb dX5_of_86 (lv_at hl 4 rfl) ?_
      refine va_mmax hx hb (hml.trans hl.1.symm) hown (hts _ q1726) (hts _ q679) (hts _ q150) (hts _ q680) (Nat.le_of_ble_eq_true rfl) (Nat.le_of_ble_eq_true rfl) (Nat.le_of_ble_eq_true rfl) (Nat.le_of_ble_eq_true rfl) dX5_of_88 ?_
      obtain ⟨t91, et91, hf⟩ := obd hf
      refine gput hx hb hts in_X5 tyX5 tyX5_ok nmX5 hown hE.1.1 (hI.1.o 4 rfl) rfl 1 (by decide) q404 rfl rfl rfl (Nat.le_of_ble_eq_true rfl) dX5_of_91 (fun H locs h1 h2 h3 h4 => ?_)
      have hI := hI.putO (σ' := cou t78 (mup (co t78) 4 1 (if (co t78 4 1) < x4 then x4 else (co t78 4 1)))) (P := 4) rfl rfl ⟨rfl, rfl⟩ h1 h2 h3 h4
      rw [Option.some.inj et91] at hI
      refine lv_aload_n hx hb dX5_of_94 rfl (lv_at hl 0 rfl) ?_
      refine lv_aload_n hx hb dX5_of_95 rfl (lv_at hl 0 rfl) ?_
      refine gget hx hb hts in_X5 hown hE.1.1 (hI.1.o 4 rfl) rfl 0 (by decide) q402 rfl dX5_of_96 ?_
      refine lv_iload hx hb dX5_of_99 (lv_at hl 4 rfl) ?_
      refine va_mmin hx hb (hml.trans hl.1.symm) hown (hts _ q1727) (hts _ q682) (hts _ q150) (hts _ q683) (Nat.le_of_ble_eq_true rfl) (Nat.le_of_ble_eq_true rfl) (Nat.le_of_ble_eq_true rfl) (Nat.le_of_ble_eq_true rfl) dX5_of_101 ?_
      obtain ⟨t104, et104, hf⟩ := obd hf
      refine gput hx hb hts in_X5 tyX5 tyX5_ok nmX5 hown hE.1.1 (hI.1.o 4 rfl) rfl 0 (by decide) q402 rfl rfl rfl (Nat.le_of_ble_eq_true rfl) dX5_of_104 (fun H locs h1 h2 h3 h4 => ?_)
      have hI := hI.putO (σ' := cou t91 (mup (co t91) 4 0 (if x4 < (co t91 4 0) then x4 else (co t91 4 0)))) (P := 4) rfl rfl ⟨rfl, rfl⟩ h1 h2 h3 h4
      rw [Option.some.inj et104] at hI
      refine lv_aload_n hx hb dX5_of_107 rfl (lv_at hl 0 rfl) ?_
      refine lv_dup hx hb dX5_of_108 rfl ?_
      refine gget hx hb hts in_X5 hown hE.1.1 (hI.1.o 4 rfl) rfl 3 (by decide) q408 rfl dX5_of_109 ?_
      refine lv_iload hx hb dX5_of_112 (lv_at hl 4 rfl) ?_
      refine lv_i2l (v := x4.toInt64) hx hb dX5_of_114 rfl ?_
      refine lv_ladd hx hb dX5_of_115 ?_
      obtain ⟨t116, et116, hf⟩ := obd hf
      refine gput hx hb hts in_X5 tyX5 tyX5_ok nmX5 hown hE.1.1 (hI.1.o 4 rfl) rfl 3 (by decide) q408 rfl rfl rfl (Nat.le_of_ble_eq_true rfl) dX5_of_116 (fun H locs h1 h2 h3 h4 => ?_)
      have hI := hI.putO (σ' := cqu t104 ((cq t104) + (x4.toInt64))) (P := 4) rfl rfl ⟨rfl, rfl⟩ h1 h2 h3 h4
      rw [Option.some.inj et116] at hI
      obtain ⟨v119, ev119, hf⟩ := obd hf
      refine lv_iinc (v := v119) (lv' := [(3, .int v119), (0, .ref (o + 84)), (1, .int c1), (2, .int c2), (4, .int x4)]) hx hb dX5_of_119 hl (k := 3) rfl (iiE ev119 (by decide)) (by decide) rfl (fun ls hl => ?_)
      refine lv_goto (tgt := 36) hx hb dX5_of_122 (by decide) ?_
      exact hk _ (Option.some.inj hf).symm H locs ls hI (lv_sub hl [1, 2, 3, 0] rfl)
    refine lv_iload_n hx hb dX5_of_36 rfl (lv_at hl 3 rfl) ?_
    refine lv_iload_n hx hb dX5_of_37 rfl (lv_at hl 2 rfl) ?_
    refine lv_icmp_gt (tgt := 125) hx hb dX5_of_38 (by decide) (fun hc => ?_) (fun hc => ?_)
    · replace hf := ipos hc hf
      exact hq _ (Option.some.inj hf).symm H locs ls hI (lv_sub hl [0] rfl)
    · replace hf := ineg hc hf
      refine lv_iload_n hx hb dX5_of_41 rfl (lv_at hl 3 rfl) ?_
      refine lv_iload_n hx hb dX5_of_42 rfl (lv_at hl 2 rfl) ?_
      refine lv_iconst (v := (-1 : Int32)) hx hb dX5_of_43 (by decide) ?_
      refine lv_ixor hx hb dX5_of_44 ?_
      refine lv_iand hx hb dX5_of_45 ?_
      refine lv_if_eq (tgt := 52) hx hb dX5_of_46 (by decide) (fun hc => ?_) (fun hc => ?_)
      · replace hf := ipos hc hf
        refine lv_aload_n hx hb dX5_of_52 rfl (lv_at hl 0 rfl) ?_
        refine lv_iload_n hx hb dX5_of_53 rfl (lv_at hl 1 rfl) ?_
        refine lv_iload_n hx hb dX5_of_54 rfl (lv_at hl 3 rfl) ?_
        obtain ⟨x55, ex55, hf⟩ := obd hf
        refine ccallI (rest := []) hx hb hts hown hE hI hml hl.1 (mX5_net Λ Λn w36.1 c1 w36.2 _ ex55) (cwX5_net_X5 hts ⟨Nat.le_of_ble_eq_true rfl, Nat.le_of_ble_eq_true rfl⟩) (hI.1.o 4 rfl) rfl rfl ⟨Nat.le_of_ble_eq_true rfl, Nat.le_of_ble_eq_true rfl⟩ rfl rfl (lv_room (Nat.le_of_ble_eq_true rfl)) dX5_of_55 (fun H locs hI => ?_)
        refine lv_istore (lv' := [(4, .int x55), (0, .ref (o + 84)), (1, .int c1), (2, .int c2), (3, .int w36.2)]) hx hb dX5_of_58 hl (by decide) rfl (fun ls hl => ?_)
        refine lv_aload_n hx hb dX5_of_60 rfl (lv_at hl 1 rfl) ?_
        refine lv_iload hx hb dX5_of_61 (lv_at hl 0 rfl) ?_
        refine lv_aload_n hx hb dX5_of_63 rfl (lv_at hl 1 rfl) ?_
        refine gget hx hb hts in_X5 hown hE.1.1 (hI.1.o 4 rfl) rfl 1 (by decide) q404 rfl dX5_of_64 ?_
        refine lv_icmp_le (tgt := 74) hx hb dX5_of_67 (by decide) (fun hc => ?_) (fun hc => ?_)
        · replace hf := ipos hc hf
          refine lv_aload_n hx hb dX5_of_74 rfl (lv_at hl 1 rfl) ?_
          refine gget hx hb hts in_X5 hown hE.1.1 (hI.1.o 4 rfl) rfl 2 (by decide) q406 rfl dX5_of_75 ?_
          exact hJ78 w36.1 w36.2 x55 (co w36.1 4 2) H locs ls hf hI  (lv_sub hl [1, 2, 3, 4, 0] rfl)
        · replace hf := ineg hc hf
          refine lv_iload_n hx hb dX5_of_70 rfl (lv_at hl 4 rfl) ?_
          refine lv_goto (tgt := 78) hx hb dX5_of_71 (by decide) ?_
          exact hJ78 w36.1 w36.2 x55 w36.2 H locs ls hf hI  (lv_sub hl [1, 2, 3, 4, 0] rfl)
      · replace hf := ineg hc hf
        refine lv_goto (tgt := 119) hx hb dX5_of_49 (by decide) ?_
        obtain ⟨v119_12, ev119_12, hf⟩ := obd hf
        refine lv_iinc (v := v119_12) (lv' := [(3, .int v119_12), (0, .ref (o + 84)), (1, .int c1), (2, .int c2)]) hx hb dX5_of_119 hl (k := 3) rfl (iiE ev119_12 (by decide)) (by decide) rfl (fun ls hl => ?_)
        refine lv_goto (tgt := 36) hx hb dX5_of_122 (by decide) ?_
        exact hk _ (Option.some.inj hf).symm H locs ls hI (lv_sub hl [1, 2, 3, 0] rfl)
  refine loopO_W (Wat := fun w36 => ∀ (H : Heap) (locs : List Loc) (ls : Array Slot), IC D J o Ld s H locs w36.1 → lv_has ls 5 [(0, .ref (o + 84)), (1, .int a1), (2, .int x8), (3, .int w36.2)] → W p l e ({ frames := 4, cells := 0, slots := 0, locals := 108 } : Room) s m args below meth c H locs 0 0 Q (F0 m 36 ls [])) (Wex := fun ex_ => ∀ (H : Heap) (locs : List Loc) (ls : Array Slot), IC D J o Ld s H locs ex_ → lv_has ls 5 [(0, .ref (o + 84))] → W p l e ({ frames := 4, cells := 0, slots := 0, locals := 108 } : Room) s m args below meth c H locs 0 0 Q (F0 m 125 ls [])) (hs36 a1 x8) FU _ e36 he36 ?_ H locs ls hI (lv_sub hl [2, 3, 1, 0] rfl)
  · skip
    intro H locs ls hI hl
    refine lv_aload_n hx hb dX5_of_125 rfl (lv_at hl 0 rfl) ?_
    exact hret H locs 126 ls ((Option.some.inj hf) ▸ hI) dX5_of_126

theorem csJ16_bitCount_X5 {R : Room} {s : State} {args : Array Value} {fr lo : Nat} (hts : ∀ w ∈ lw_all, w.before args s = true) (hR : fr + 1 ≤ R.frames ∧ 8 + (1 + 11) + lo ≤ R.locals) : CallB R s args RX5 73 yJ16_bitCount cJ16_bitCount 1 (some .int) (ws_ yJ16_bitCount cJ16_bitCount 1 (some .int)) ({ frames := fr, cells := 0, slots := 0, locals := lo }) 0 0 1 ∧ (Cond.static yJ16_bitCount).before args s = true :=
  va_cwS 1 hts (lw_S q1732 q723 q158 q724) rfl rfl rfl (by decide +kernel) hR
def X5_fortune (τ : Cs) : Option (Int32) :=
  (X2_of (cw τ 0) (0 : Int32)).bind fun x13 =>
  (J16_bitCount x13).bind fun x16 =>
  (dnzL ((1 : Int64) <<< (x16.toInt64 &&& 63))).bind fun _ =>
  some (((cq τ) / ((1 : Int64) <<< (x16.toInt64 &&& 63))).toInt32)
set_option maxHeartbeats 4000000 in
theorem mX5_fortune (Λ : Nat → Nat → (Nat → Int32) → Int32) (Λn : Nat → Int32) (τ : Cs) (r : Int32) (hf : X5_fortune τ = some r) : CMi yX5_fortune cX5_fortune 1 (some .int) 2 63 Λ Λn (fun o aK aF => [.ref (o + 84)]) r τ τ := by
  refine CMi.of (by decide) (fun _ _ _ => Nat.le_of_ble_eq_true rfl) ?_
  intro p l e s m args below meth c D J o z aK aV G Ld aF Q ls hx hb hml hown hts hE hret hI hl
  obtain ⟨H, eH⟩ : ∃ H, H = s.heap := ⟨_, rfl⟩
  obtain ⟨locs, eL⟩ : ∃ L : List Loc, L = [] := ⟨_, rfl⟩
  rw [← eH, ← eL] at hI ⊢
  have hown : s.vm.findClass RX5 = some m.cls := hown
  have hl : lv_has ls 1 [(0, .ref (o + 84))] := hl
  unfold X5_fortune at hf
  refine lv_aload_n hx hb dX5_fortune_0 rfl (lv_at hl 0 rfl) ?_
  refine gget hx hb hts in_X5 hown hE.1.1 (hI.1.o 4 rfl) rfl 3 (by decide) q408 rfl dX5_fortune_1 ?_
  refine lv_lconst (v := (1 : Int64)) hx hb dX5_fortune_4 (by decide) ?_
  refine lv_aload_n hx hb dX5_fortune_5 rfl (lv_at hl 0 rfl) ?_
  refine gget hx hb hts in_X5 hown hE.1.1 (hI.1.o 4 rfl) rfl 4 (by decide) q409 rfl dX5_fortune_6 ?_
  refine ggetN hx hb hts in_X1 hown hE.1.1 (hI.1.o 0 rfl) rfl 0 (by decide) (hE.1.2.2.f 54 rfl) rfl dX5_fortune_9 ?_
  refine lv_iconst (v := (0 : Int32)) hx hb dX5_fortune_12 (by decide) ?_
  obtain ⟨x13, ex13, hf⟩ := obd hf
  refine cworldI (rest := [.long (1 : Int64), .long (cq τ)]) hx hb hts hown hE hI hml hl.1 (mX2_of (cw τ 0) (0 : Int32) _ ex13) (by decide) (cwX2_of_X5 hts ⟨Nat.le_of_ble_eq_true rfl, Nat.le_of_ble_eq_true rfl⟩) (congrArg some (cwu_self τ 0)) ⟨Nat.le_of_ble_eq_true rfl, Nat.le_of_ble_eq_true rfl⟩ rfl rfl (lv_room (Nat.le_of_ble_eq_true rfl)) dX5_fortune_13 (fun H locs hI => ?_)
  obtain ⟨x16, ex16, hf⟩ := obd hf
  refine tcallS (rest := [.long (1 : Int64), .long (cq τ)]) hx hb hts hown hml hl.1 (mJ16_bitCount x13 _ ex16) (csJ16_bitCount_X5 hts ⟨Nat.le_of_ble_eq_true rfl, Nat.le_of_ble_eq_true rfl⟩) ⟨Nat.le_of_ble_eq_true rfl, Nat.le_of_ble_eq_true rfl⟩ rfl rfl (lv_room (Nat.le_of_ble_eq_true rfl)) dX5_fortune_16 ?_
  refine lv_lshl (v := ((1 : Int64) <<< (x16.toInt64 &&& 63))) hx hb dX5_fortune_19 rfl ?_
  obtain ⟨_, en20, hf⟩ := obd hf
  refine lv_ldiv hx hb dX5_fortune_20 (dnzL_e en20).2 ?_
  refine lv_l2i (v := ((cq τ) / ((1 : Int64) <<< (x16.toInt64 &&& 63))).toInt32) hx hb dX5_fortune_21 rfl ?_
  have hf := Option.some.inj hf
  rw [hf]
  exact hret H locs 22 ls hI dX5_fortune_22

def X6_isRead (τ : Cs) (a1 : Int32) (a2 : Int32) : Option (Int32) :=
  (ld 126 (co τ 5) a1).bind fun x6 =>
  if a2 < x6 then
    some (0 : Int32)
  else
    (ld 126 (co τ 6) a1).bind fun x16 =>
    if x16 ≤ a2 then
      some (0 : Int32)
    else
      some (1 : Int32)
set_option maxHeartbeats 4000000 in
theorem mX6_isRead (Λ : Nat → Nat → (Nat → Int32) → Int32) (Λn : Nat → Int32) (τ : Cs) (a1 : Int32) (a2 : Int32) (r : Int32) (hf : X6_isRead τ a1 a2 = some r) : CMi yX6_isRead cX6_isRead 3 (some .boolean) 1 40 Λ Λn (fun o aK aF => [.ref (o + 86), .int a1, .int a2]) r τ τ := by
  refine CMz.of (by decide) (fun _ _ _ => Nat.le_of_ble_eq_true rfl) ?_
  intro p l e s m args below meth c D J o z aK aV G Ld aF Q ls hx hb hml hown hts hE hret hI hl
  obtain ⟨H, eH⟩ : ∃ H, H = s.heap := ⟨_, rfl⟩
  obtain ⟨locs, eL⟩ : ∃ L : List Loc, L = [] := ⟨_, rfl⟩
  rw [← eH, ← eL] at hI ⊢
  have hown : s.vm.findClass RX6 = some m.cls := hown
  have hl : lv_has ls 3 [(0, .ref (o + 86)), (1, .int a1), (2, .int a2)] := hl
  unfold X6_isRead at hf
  refine lv_iload_n hx hb dX6_isRead_0 rfl (lv_at hl 2 rfl) ?_
  refine lv_aload_n hx hb dX6_isRead_1 rfl (lv_at hl 0 rfl) ?_
  refine gget hx hb hts in_X6 hown hE.1.1 (hI.1.o 5 rfl) rfl 0 (by decide) q453 rfl dX6_isRead_2 ?_
  refine lv_iload_n hx hb dX6_isRead_5 rfl (lv_at hl 1 rfl) ?_
  obtain ⟨x6, ex6, hf⟩ := obd hf
  refine gald hx hb hE.1.1 0 (hI.1.o 6 rfl) rfl ex6 dX6_isRead_6 ?_
  refine lv_icmp_lt (tgt := 24) hx hb dX6_isRead_7 (by decide) (fun hc => ?_) (fun hc => ?_)
  · replace hf := ipos hc hf
    refine lv_iconst (v := (0 : Int32)) hx hb dX6_isRead_24 (by decide) ?_
    have hf := Option.some.inj hf
    rw [hf]
    exact hret H locs 25 ls hI (hf ▸ (by decide)) dX6_isRead_25
  · replace hf := ineg hc hf
    refine lv_iload_n hx hb dX6_isRead_10 rfl (lv_at hl 2 rfl) ?_
    refine lv_aload_n hx hb dX6_isRead_11 rfl (lv_at hl 0 rfl) ?_
    refine gget hx hb hts in_X6 hown hE.1.1 (hI.1.o 5 rfl) rfl 1 (by decide) q454 rfl dX6_isRead_12 ?_
    refine lv_iload_n hx hb dX6_isRead_15 rfl (lv_at hl 1 rfl) ?_
    obtain ⟨x16, ex16, hf⟩ := obd hf
    refine gald hx hb hE.1.1 0 (hI.1.o 7 rfl) rfl ex16 dX6_isRead_16 ?_
    refine lv_icmp_ge (tgt := 24) hx hb dX6_isRead_17 (by decide) (fun hc => ?_) (fun hc => ?_)
    · replace hf := ipos hc hf
      refine lv_iconst (v := (0 : Int32)) hx hb dX6_isRead_24 (by decide) ?_
      have hf := Option.some.inj hf
      rw [hf]
      exact hret H locs 25 ls hI (hf ▸ (by decide)) dX6_isRead_25
    · replace hf := ineg hc hf
      refine lv_iconst (v := (1 : Int32)) hx hb dX6_isRead_20 (by decide) ?_
      refine lv_goto (tgt := 25) hx hb dX6_isRead_21 (by decide) ?_
      have hf := Option.some.inj hf
      rw [hf]
      exact hret H locs 25 ls hI (hf ▸ (by decide)) dX6_isRead_25

theorem cwX6_isRead_X6 {R : Room} {s : State} {args : Array Value} {fr lo : Nat} (hts : ∀ w ∈ lw_all, w.before args s = true) (hR : fr + 1 ≤ R.frames ∧ 8 + (3 + 11) + lo ≤ R.locals) : CallW R s args RX6 RX6 64 yX6_isRead cX6_isRead 3 (some .boolean) (ws_ yX6_isRead cX6_isRead 3 (some .boolean)) ({ frames := fr, cells := 0, slots := 0, locals := lo }) 0 0 2 :=
  cwV 2 hts (lw_V q1941 q1943 qs50 q142 q1944) rfl rfl rfl (by decide +kernel) hR
def X6_fits_L10 (τ : Cs) (c1 : Int32) (w10 : Int32) : Option ((Int32) ⊕ ((Unit) ⊕ (Unit))) :=
  if (co τ 1 2) ≤ w10 then
    some (.inr (.inr ()))
  else
    (ld 400 (co τ 2) w10).bind fun x25 =>
    (X6_isRead τ c1 x25).bind fun x26 =>
    (ld 400 (co τ 2) (w10 + (1 : Int32))).bind fun x36 =>
    if x36 = (1 : Int32) then
      if x26 = (1 : Int32) then
        (some (w10 + (2 : Int32))).bind fun v51_5 =>
        some (.inl v51_5)
      else
        some (.inr (.inl ()))
    else
      if x26 = (0 : Int32) then
        (some (w10 + (2 : Int32))).bind fun v51 =>
        some (.inl v51)
      else
        some (.inr (.inl ()))
def X6_fits (τ : Cs) (a1 : Int32) : Option (Int32) :=
  (loopO (X6_fits_L10 τ a1) FU (0 : Int32)).bind fun e10 =>
  Sum.elim (fun e10 =>
    some (0 : Int32)) (fun e10 =>
    some (1 : Int32)) e10
set_option maxHeartbeats 4000000 in
theorem mX6_fits (Λ : Nat → Nat → (Nat → Int32) → Int32) (Λn : Nat → Int32) (τ : Cs) (a1 : Int32) (r : Int32) (hf : X6_fits τ a1 = some r) : CMi yX6_fits cX6_fits 4 (some .boolean) 2 62 Λ Λn (fun o aK aF => [.ref (o + 86), .int a1]) r τ τ := by
  refine CMz.of (by decide) (fun _ _ _ => Nat.le_of_ble_eq_true rfl) ?_
  intro p l e s m args below meth c D J o z aK aV G Ld aF Q ls hx hb hml hown hts hE hret hI hl
  obtain ⟨H, eH⟩ : ∃ H, H = s.heap := ⟨_, rfl⟩
  obtain ⟨locs, eL⟩ : ∃ L : List Loc, L = [] := ⟨_, rfl⟩
  rw [← eH, ← eL] at hI ⊢
  have hown : s.vm.findClass RX6 = some m.cls := hown
  have hl : lv_has ls 4 [(0, .ref (o + 86)), (1, .int a1)] := hl
  unfold X6_fits at hf
  refine lv_aload_n hx hb dX6_fits_0 rfl (lv_at hl 0 rfl) ?_
  refine gget hx hb hts in_X6 hown hE.1.1 (hI.1.o 5 rfl) rfl 2 (by decide) q455 rfl dX6_fits_1 ?_
  refine ggetN hx hb hts in_X1 hown hE.1.1 (hI.1.o 0 rfl) rfl 4 (by decide) (hE.1.2.2.f 56 rfl) rfl dX6_fits_4 ?_
  refine lv_astore_n (lv' := [(2, .ref (o + 61)), (0, .ref (o + 86)), (1, .int a1)]) hx hb dX6_fits_7 rfl hl (by decide) rfl (fun ls hl => ?_)
  refine lv_iconst (v := (0 : Int32)) hx hb dX6_fits_8 (by decide) ?_
  refine lv_istore_n (lv' := [(3, .int (0 : Int32)), (2, .ref (o + 61)), (0, .ref (o + 86)), (1, .int a1)]) hx hb dX6_fits_9 rfl hl (by decide) rfl (fun ls hl => ?_)
  obtain ⟨e10, he10, hf⟩ := obd hf
  have hs10 : ∀ (c1 : Int32), ∀ (w10 : Int32) (o10 : (Int32) ⊕ ((Unit) ⊕ (Unit))), X6_fits_L10 τ c1 w10 = some o10 → (∀ wx_, o10 = .inl wx_ → ∀ (H : Heap) (locs : List Loc) (ls : Array Slot), IC D J o Ld s H locs τ → lv_has ls 4 [(0, .ref (o + 86)), (1, .int c1), (2, .ref (o + 61)), (3, .int wx_)] → W p l e ({ frames := 2, cells := 0, slots := 0, locals := 62 } : Room) s m args below meth c H locs 0 0 Q (F0 m 10 ls [])) → (∀ ex_, o10 = .inr ex_ → Sum.elim (fun ex_ => ∀ (H : Heap) (locs : List Loc) (ls : Array Slot), IC D J o Ld s H locs τ → lv_has ls 4 [] → W p l e ({ frames := 2, cells := 0, slots := 0, locals := 62 } : Room) s m args below meth c H locs 0 0 Q (F0 m 49 ls [])) (fun ex_ => ∀ (H : Heap) (locs : List Loc) (ls : Array Slot), IC D J o Ld s H locs τ → lv_has ls 4 [] → W p l e ({ frames := 2, cells := 0, slots := 0, locals := 62 } : Room) s m args below meth c H locs 0 0 Q (F0 m 57 ls [])) ex_) → ∀ (H : Heap) (locs : List Loc) (ls : Array Slot), IC D J o Ld s H locs τ → lv_has ls 4 [(0, .ref (o + 86)), (1, .int c1), (2, .ref (o + 61)), (3, .int w10)] → W p l e ({ frames := 2, cells := 0, slots := 0, locals := 62 } : Room) s m args below meth c H locs 0 0 Q (F0 m 10 ls []) := by
    intro c1 w10 o10 hf hk hq H locs ls hI hl
    unfold X6_fits_L10 at hf
    refine lv_iload_n hx hb dX6_fits_10 rfl (lv_at hl 3 rfl) ?_
    refine lv_aload_n hx hb dX6_fits_11 rfl (lv_at hl 2 rfl) ?_
    refine ggetN hx hb hts in_X3 hown hE.1.1 (hI.1.o 1 rfl) rfl 2 (by decide) (hE.1.2.2.f 37 rfl) rfl dX6_fits_12 ?_
    refine lv_icmp_ge (tgt := 57) hx hb dX6_fits_15 (by decide) (fun hc => ?_) (fun hc => ?_)
    · replace hf := ipos hc hf
      exact hq _ (Option.some.inj hf).symm H locs ls hI (lv_sub hl [] rfl)
    · replace hf := ineg hc hf
      refine lv_aload_n hx hb dX6_fits_18 rfl (lv_at hl 0 rfl) ?_
      refine lv_iload_n hx hb dX6_fits_19 rfl (lv_at hl 1 rfl) ?_
      refine lv_aload_n hx hb dX6_fits_20 rfl (lv_at hl 2 rfl) ?_
      refine ggetN hx hb hts in_X3 hown hE.1.1 (hI.1.o 1 rfl) rfl 0 (by decide) (hE.1.2.2.f 36 rfl) rfl dX6_fits_21 ?_
      refine lv_iload_n hx hb dX6_fits_24 rfl (lv_at hl 3 rfl) ?_
      obtain ⟨x25, ex25, hf⟩ := obd hf
      refine gbld hx hb hE.1.1 2 (hI.1.o 2 rfl) rfl ex25 dX6_fits_25 ?_
      obtain ⟨x26, ex26, hf⟩ := obd hf
      refine ccallI (rest := []) hx hb hts hown hE hI hml hl.1 (mX6_isRead Λ Λn τ c1 x25 _ ex26) (cwX6_isRead_X6 hts ⟨Nat.le_of_ble_eq_true rfl, Nat.le_of_ble_eq_true rfl⟩) (hI.1.o 5 rfl) rfl rfl ⟨Nat.le_of_ble_eq_true rfl, Nat.le_of_ble_eq_true rfl⟩ rfl rfl (lv_room (Nat.le_of_ble_eq_true rfl)) dX6_fits_26 (fun H locs hI => ?_)
      refine lv_aload_n hx hb dX6_fits_29 rfl (lv_at hl 2 rfl) ?_
      refine ggetN hx hb hts in_X3 hown hE.1.1 (hI.1.o 1 rfl) rfl 0 (by decide) (hE.1.2.2.f 36 rfl) rfl dX6_fits_30 ?_
      refine lv_iload_n hx hb dX6_fits_33 rfl (lv_at hl 3 rfl) ?_
      refine lv_iconst (v := (1 : Int32)) hx hb dX6_fits_34 (by decide) ?_
      refine lv_iadd hx hb dX6_fits_35 ?_
      obtain ⟨x36, ex36, hf⟩ := obd hf
      refine gbld hx hb hE.1.1 2 (hI.1.o 2 rfl) rfl ex36 dX6_fits_36 ?_
      refine lv_iconst (v := (1 : Int32)) hx hb dX6_fits_37 (by decide) ?_
      refine lv_icmp_ne (tgt := 45) hx hb dX6_fits_38 (by decide) (fun hc => ?_) (fun hc => ?_)
      · replace hf := ineg hc hf
        refine lv_iconst (v := (0 : Int32)) hx hb dX6_fits_45 (by decide) ?_
        refine lv_icmp_eq (tgt := 51) hx hb dX6_fits_46 (by decide) (fun hc => ?_) (fun hc => ?_)
        · replace hf := ipos hc hf
          obtain ⟨v51, ev51, hf⟩ := obd hf
          refine lv_iinc (v := v51) (lv' := [(3, .int v51), (0, .ref (o + 86)), (1, .int c1), (2, .ref (o + 61))]) hx hb dX6_fits_51 hl (k := 3) rfl (iiE ev51 (by decide)) (by decide) rfl (fun ls hl => ?_)
          refine lv_goto (tgt := 10) hx hb dX6_fits_54 (by decide) ?_
          exact hk _ (Option.some.inj hf).symm H locs ls hI (lv_sub hl [1, 2, 3, 0] rfl)
        · replace hf := ineg hc hf
          exact hq _ (Option.some.inj hf).symm H locs ls hI (lv_sub hl [] rfl)
      · replace hf := ipos hc hf
        refine lv_iconst (v := (1 : Int32)) hx hb dX6_fits_41 (by decide) ?_
        refine lv_goto (tgt := 46) hx hb dX6_fits_42 (by decide) ?_
        refine lv_icmp_eq (tgt := 51) hx hb dX6_fits_46 (by decide) (fun hc => ?_) (fun hc => ?_)
        · replace hf := ipos hc hf
          obtain ⟨v51_5, ev51_5, hf⟩ := obd hf
          refine lv_iinc (v := v51_5) (lv' := [(3, .int v51_5), (0, .ref (o + 86)), (1, .int c1), (2, .ref (o + 61))]) hx hb dX6_fits_51 hl (k := 3) rfl (iiE ev51_5 (by decide)) (by decide) rfl (fun ls hl => ?_)
          refine lv_goto (tgt := 10) hx hb dX6_fits_54 (by decide) ?_
          exact hk _ (Option.some.inj hf).symm H locs ls hI (lv_sub hl [1, 2, 3, 0] rfl)
        · replace hf := ineg hc hf
          exact hq _ (Option.some.inj hf).symm H locs ls hI (lv_sub hl [] rfl)
  refine loopO_W (Wat := fun w10 => ∀ (H : Heap) (locs : List Loc) (ls : Array Slot), IC D J o Ld s H locs τ → lv_has ls 4 [(0, .ref (o + 86)), (1, .int a1), (2, .ref (o + 61)), (3, .int w10)] → W p l e ({ frames := 2, cells := 0, slots := 0, locals := 62 } : Room) s m args below meth c H locs 0 0 Q (F0 m 10 ls [])) (Wex := fun ex_ => Sum.elim (fun ex_ => ∀ (H : Heap) (locs : List Loc) (ls : Array Slot), IC D J o Ld s H locs τ → lv_has ls 4 [] → W p l e ({ frames := 2, cells := 0, slots := 0, locals := 62 } : Room) s m args below meth c H locs 0 0 Q (F0 m 49 ls [])) (fun ex_ => ∀ (H : Heap) (locs : List Loc) (ls : Array Slot), IC D J o Ld s H locs τ → lv_has ls 4 [] → W p l e ({ frames := 2, cells := 0, slots := 0, locals := 62 } : Room) s m args below meth c H locs 0 0 Q (F0 m 57 ls [])) ex_) (hs10 a1) FU _ e10 he10 ?_ H locs ls hI (lv_sub hl [2, 3, 1, 0] rfl)
  · skip
    rcases e10 with e10 | e10
    · replace hf := sumL hf
      intro H locs ls hI hl
      refine lv_iconst (v := (0 : Int32)) hx hb dX6_fits_49 (by decide) ?_
      have hf := Option.some.inj hf
      rw [hf]
      exact hret H locs 50 ls hI (hf ▸ (by decide)) dX6_fits_50
    · replace hf := sumR hf
      intro H locs ls hI hl
      refine lv_iconst (v := (1 : Int32)) hx hb dX6_fits_57 (by decide) ?_
      have hf := Option.some.inj hf
      rw [hf]
      exact hret H locs 58 ls hI (hf ▸ (by decide)) dX6_fits_58

theorem cwX6_fits_X6 {R : Room} {s : State} {args : Array Value} {fr lo : Nat} (hts : ∀ w ∈ lw_all, w.before args s = true) (hR : fr + 1 ≤ R.frames ∧ 8 + (4 + 11) + lo ≤ R.locals) : CallW R s args RX6 RX6 68 yX6_fits cX6_fits 4 (some .boolean) (ws_ yX6_fits cX6_fits 4 (some .boolean)) ({ frames := fr, cells := 0, slots := 0, locals := lo }) 0 0 1 :=
  cwV 1 hts (lw_V q1937 q1939 qs49 q142 q1940) rfl rfl rfl (by decide +kernel) hR
def X6_many_L4 (τ : Cs) (w4 : Int32 × Int32) : Option ((Int32 × Int32) ⊕ (Int32)) :=
  if ((cw τ 0 0 2) * (21 : Int32)) ≤ w4.2 then
    some (.inr w4.1)
  else
    (X6_fits τ w4.2).bind fun x24 =>
    if x24 = (0 : Int32) then
      (some (w4.1 + (0 : Int32))).bind fun v36 =>
      (some (w4.2 + (1 : Int32))).bind fun v37 =>
      some (.inl (v36, v37))
    else
      (some (w4.1 + (1 : Int32))).bind fun v36_4 =>
      (some (w4.2 + (1 : Int32))).bind fun v37_5 =>
      some (.inl (v36_4, v37_5))
def X6_many (τ : Cs) : Option (Int32) :=
  (loopO (X6_many_L4 τ) FU ((0 : Int32), (0 : Int32))).bind fun e4 =>
  some e4
set_option maxHeartbeats 4000000 in
theorem mX6_many (Λ : Nat → Nat → (Nat → Int32) → Int32) (Λn : Nat → Int32) (τ : Cs) (r : Int32) (hf : X6_many τ = some r) : CMi yX6_many cX6_many 3 (some .int) 3 85 Λ Λn (fun o aK aF => [.ref (o + 86)]) r τ τ := by
  refine CMi.of (by decide) (fun _ _ _ => Nat.le_of_ble_eq_true rfl) ?_
  intro p l e s m args below meth c D J o z aK aV G Ld aF Q ls hx hb hml hown hts hE hret hI hl
  obtain ⟨H, eH⟩ : ∃ H, H = s.heap := ⟨_, rfl⟩
  obtain ⟨locs, eL⟩ : ∃ L : List Loc, L = [] := ⟨_, rfl⟩
  rw [← eH, ← eL] at hI ⊢
  have hown : s.vm.findClass RX6 = some m.cls := hown
  have hl : lv_has ls 3 [(0, .ref (o + 86))] := hl
  unfold X6_many at hf
  refine lv_iconst (v := (0 : Int32)) hx hb dX6_many_0 (by decide) ?_
  refine lv_istore_n (lv' := [(1, .int (0 : Int32)), (0, .ref (o + 86))]) hx hb dX6_many_1 rfl hl (by decide) rfl (fun ls hl => ?_)
  refine lv_iconst (v := (0 : Int32)) hx hb dX6_many_2 (by decide) ?_
  refine lv_istore_n (lv' := [(2, .int (0 : Int32)), (1, .int (0 : Int32)), (0, .ref (o + 86))]) hx hb dX6_many_3 rfl hl (by decide) rfl (fun ls hl => ?_)
  obtain ⟨e4, he4, hf⟩ := obd hf
  refine loopO_W (Wat := fun w4 => ∀ (H : Heap) (locs : List Loc) (ls : Array Slot), IC D J o Ld s H locs τ → lv_has ls 3 [(0, .ref (o + 86)), (1, .int w4.1), (2, .int w4.2)] → W p l e ({ frames := 3, cells := 0, slots := 0, locals := 85 } : Room) s m args below meth c H locs 0 0 Q (F0 m 4 ls [])) (Wex := fun ex_ => ∀ (H : Heap) (locs : List Loc) (ls : Array Slot), IC D J o Ld s H locs τ → lv_has ls 3 [(1, .int ex_)] → W p l e ({ frames := 3, cells := 0, slots := 0, locals := 85 } : Room) s m args below meth c H locs 0 0 Q (F0 m 43 ls [])) (fun w4 o4 hf hk hq => ?_) FU _ e4 he4 ?_ H locs ls hI (lv_sub hl [2, 1, 0] rfl)
  · intro H locs ls hI hl
    unfold X6_many_L4 at hf
    refine lv_iload_n hx hb dX6_many_4 rfl (lv_at hl 2 rfl) ?_
    refine lv_aload_n hx hb dX6_many_5 rfl (lv_at hl 0 rfl) ?_
    refine gget hx hb hts in_X6 hown hE.1.1 (hI.1.o 5 rfl) rfl 2 (by decide) q455 rfl dX6_many_6 ?_
    refine ggetN hx hb hts in_X1 hown hE.1.1 (hI.1.o 0 rfl) rfl 0 (by decide) (hE.1.2.2.f 55 rfl) rfl dX6_many_9 ?_
    refine ggetN hx hb hts in_X2 hown hE.1.1 (hI.1.w 0 (by decide) 0 rfl) rfl 2 (by decide) (hE.1.2.2.f 2 rfl) rfl dX6_many_12 ?_
    refine lv_bipush (v := (21 : Int32)) hx hb dX6_many_15 (by decide) ?_
    refine lv_imul hx hb dX6_many_17 ?_
    refine lv_icmp_ge (tgt := 43) hx hb dX6_many_18 (by decide) (fun hc => ?_) (fun hc => ?_)
    · replace hf := ipos hc hf
      exact hq _ (Option.some.inj hf).symm H locs ls hI (lv_sub hl [1] rfl)
    · replace hf := ineg hc hf
      refine lv_iload_n hx hb dX6_many_21 rfl (lv_at hl 1 rfl) ?_
      refine lv_aload_n hx hb dX6_many_22 rfl (lv_at hl 0 rfl) ?_
      refine lv_iload_n hx hb dX6_many_23 rfl (lv_at hl 2 rfl) ?_
      obtain ⟨x24, ex24, hf⟩ := obd hf
      refine ccallI (rest := [.int w4.1]) hx hb hts hown hE hI hml hl.1 (mX6_fits Λ Λn τ w4.2 _ ex24) (cwX6_fits_X6 hts ⟨Nat.le_of_ble_eq_true rfl, Nat.le_of_ble_eq_true rfl⟩) (hI.1.o 5 rfl) rfl rfl ⟨Nat.le_of_ble_eq_true rfl, Nat.le_of_ble_eq_true rfl⟩ rfl rfl (lv_room (Nat.le_of_ble_eq_true rfl)) dX6_many_24 (fun H locs hI => ?_)
      refine lv_if_eq (tgt := 34) hx hb dX6_many_27 (by decide) (fun hc => ?_) (fun hc => ?_)
      · replace hf := ipos hc hf
        refine lv_iconst (v := (0 : Int32)) hx hb dX6_many_34 (by decide) ?_
        refine lv_iadd hx hb dX6_many_35 ?_
        obtain ⟨v36, ev36, hf⟩ := obd hf
        refine nmI ev36 ?_
        refine lv_istore_n (lv' := [(1, .int v36), (0, .ref (o + 86)), (2, .int w4.2)]) hx hb dX6_many_36 rfl hl (by decide) rfl (fun ls hl => ?_)
        obtain ⟨v37, ev37, hf⟩ := obd hf
        refine lv_iinc (v := v37) (lv' := [(2, .int v37), (1, .int v36), (0, .ref (o + 86))]) hx hb dX6_many_37 hl (k := 2) rfl (iiE ev37 (by decide)) (by decide) rfl (fun ls hl => ?_)
        refine lv_goto (tgt := 4) hx hb dX6_many_40 (by decide) ?_
        exact hk _ (Option.some.inj hf).symm H locs ls hI (lv_sub hl [2, 1, 0] rfl)
      · replace hf := ineg hc hf
        refine lv_iconst (v := (1 : Int32)) hx hb dX6_many_30 (by decide) ?_
        refine lv_goto (tgt := 35) hx hb dX6_many_31 (by decide) ?_
        refine lv_iadd hx hb dX6_many_35 ?_
        obtain ⟨v36_4, ev36_4, hf⟩ := obd hf
        refine nmI ev36_4 ?_
        refine lv_istore_n (lv' := [(1, .int v36_4), (0, .ref (o + 86)), (2, .int w4.2)]) hx hb dX6_many_36 rfl hl (by decide) rfl (fun ls hl => ?_)
        obtain ⟨v37_5, ev37_5, hf⟩ := obd hf
        refine lv_iinc (v := v37_5) (lv' := [(2, .int v37_5), (1, .int v36_4), (0, .ref (o + 86))]) hx hb dX6_many_37 hl (k := 2) rfl (iiE ev37_5 (by decide)) (by decide) rfl (fun ls hl => ?_)
        refine lv_goto (tgt := 4) hx hb dX6_many_40 (by decide) ?_
        exact hk _ (Option.some.inj hf).symm H locs ls hI (lv_sub hl [2, 1, 0] rfl)
  · skip
    intro H locs ls hI hl
    refine lv_iload_n hx hb dX6_many_43 rfl (lv_at hl 0 rfl) ?_
    have hf := Option.some.inj hf
    rw [hf]
    exact hret H locs 44 ls hI dX6_many_44

def X6_inks_L4 (τ : Cs) (w4 : Int32 × Int32) : Option ((Int32 × Int32) ⊕ (Int32)) :=
  if ((cw τ 0 0 2) * (21 : Int32)) ≤ w4.2 then
    some (.inr w4.1)
  else
    (X6_fits τ w4.2).bind fun x24 =>
    if x24 = (0 : Int32) then
      (some (w4.1 ||| (0 : Int32))).bind fun v41 =>
      (some (w4.2 + (1 : Int32))).bind fun v42 =>
      some (.inl (v41, v42))
    else
      (some (w4.1 ||| ((1 : Int32) <<< ((w4.2 / (21 : Int32)) &&& (31 : Int32))))).bind fun v41_4 =>
      (some (w4.2 + (1 : Int32))).bind fun v42_5 =>
      some (.inl (v41_4, v42_5))
def X6_inks (τ : Cs) : Option (Int32) :=
  (loopO (X6_inks_L4 τ) FU ((0 : Int32), (0 : Int32))).bind fun e4 =>
  some e4
set_option maxHeartbeats 4000000 in
theorem mX6_inks (Λ : Nat → Nat → (Nat → Int32) → Int32) (Λn : Nat → Int32) (τ : Cs) (r : Int32) (hf : X6_inks τ = some r) : CMi yX6_inks cX6_inks 3 (some .int) 3 85 Λ Λn (fun o aK aF => [.ref (o + 86)]) r τ τ := by
  refine CMi.of (by decide) (fun _ _ _ => Nat.le_of_ble_eq_true rfl) ?_
  intro p l e s m args below meth c D J o z aK aV G Ld aF Q ls hx hb hml hown hts hE hret hI hl
  obtain ⟨H, eH⟩ : ∃ H, H = s.heap := ⟨_, rfl⟩
  obtain ⟨locs, eL⟩ : ∃ L : List Loc, L = [] := ⟨_, rfl⟩
  rw [← eH, ← eL] at hI ⊢
  have hown : s.vm.findClass RX6 = some m.cls := hown
  have hl : lv_has ls 3 [(0, .ref (o + 86))] := hl
  unfold X6_inks at hf
  refine lv_iconst (v := (0 : Int32)) hx hb dX6_inks_0 (by decide) ?_
  refine lv_istore_n (lv' := [(1, .int (0 : Int32)), (0, .ref (o + 86))]) hx hb dX6_inks_1 rfl hl (by decide) rfl (fun ls hl => ?_)
  refine lv_iconst (v := (0 : Int32)) hx hb dX6_inks_2 (by decide) ?_
  refine lv_istore_n (lv' := [(2, .int (0 : Int32)), (1, .int (0 : Int32)), (0, .ref (o + 86))]) hx hb dX6_inks_3 rfl hl (by decide) rfl (fun ls hl => ?_)
  obtain ⟨e4, he4, hf⟩ := obd hf
  refine loopO_W (Wat := fun w4 => ∀ (H : Heap) (locs : List Loc) (ls : Array Slot), IC D J o Ld s H locs τ → lv_has ls 3 [(0, .ref (o + 86)), (1, .int w4.1), (2, .int w4.2)] → W p l e ({ frames := 3, cells := 0, slots := 0, locals := 85 } : Room) s m args below meth c H locs 0 0 Q (F0 m 4 ls [])) (Wex := fun ex_ => ∀ (H : Heap) (locs : List Loc) (ls : Array Slot), IC D J o Ld s H locs τ → lv_has ls 3 [(1, .int ex_)] → W p l e ({ frames := 3, cells := 0, slots := 0, locals := 85 } : Room) s m args below meth c H locs 0 0 Q (F0 m 48 ls [])) (fun w4 o4 hf hk hq => ?_) FU _ e4 he4 ?_ H locs ls hI (lv_sub hl [2, 1, 0] rfl)
  · intro H locs ls hI hl
    unfold X6_inks_L4 at hf
    refine lv_iload_n hx hb dX6_inks_4 rfl (lv_at hl 2 rfl) ?_
    refine lv_aload_n hx hb dX6_inks_5 rfl (lv_at hl 0 rfl) ?_
    refine gget hx hb hts in_X6 hown hE.1.1 (hI.1.o 5 rfl) rfl 2 (by decide) q455 rfl dX6_inks_6 ?_
    refine ggetN hx hb hts in_X1 hown hE.1.1 (hI.1.o 0 rfl) rfl 0 (by decide) (hE.1.2.2.f 55 rfl) rfl dX6_inks_9 ?_
    refine ggetN hx hb hts in_X2 hown hE.1.1 (hI.1.w 0 (by decide) 0 rfl) rfl 2 (by decide) (hE.1.2.2.f 2 rfl) rfl dX6_inks_12 ?_
    refine lv_bipush (v := (21 : Int32)) hx hb dX6_inks_15 (by decide) ?_
    refine lv_imul hx hb dX6_inks_17 ?_
    refine lv_icmp_ge (tgt := 48) hx hb dX6_inks_18 (by decide) (fun hc => ?_) (fun hc => ?_)
    · replace hf := ipos hc hf
      exact hq _ (Option.some.inj hf).symm H locs ls hI (lv_sub hl [1] rfl)
    · replace hf := ineg hc hf
      refine lv_iload_n hx hb dX6_inks_21 rfl (lv_at hl 1 rfl) ?_
      refine lv_aload_n hx hb dX6_inks_22 rfl (lv_at hl 0 rfl) ?_
      refine lv_iload_n hx hb dX6_inks_23 rfl (lv_at hl 2 rfl) ?_
      obtain ⟨x24, ex24, hf⟩ := obd hf
      refine ccallI (rest := [.int w4.1]) hx hb hts hown hE hI hml hl.1 (mX6_fits Λ Λn τ w4.2 _ ex24) (cwX6_fits_X6 hts ⟨Nat.le_of_ble_eq_true rfl, Nat.le_of_ble_eq_true rfl⟩) (hI.1.o 5 rfl) rfl rfl ⟨Nat.le_of_ble_eq_true rfl, Nat.le_of_ble_eq_true rfl⟩ rfl rfl (lv_room (Nat.le_of_ble_eq_true rfl)) dX6_inks_24 (fun H locs hI => ?_)
      refine lv_if_eq (tgt := 39) hx hb dX6_inks_27 (by decide) (fun hc => ?_) (fun hc => ?_)
      · replace hf := ipos hc hf
        refine lv_iconst (v := (0 : Int32)) hx hb dX6_inks_39 (by decide) ?_
        refine lv_ior hx hb dX6_inks_40 ?_
        obtain ⟨v41, ev41, hf⟩ := obd hf
        refine nmI ev41 ?_
        refine lv_istore_n (lv' := [(1, .int v41), (0, .ref (o + 86)), (2, .int w4.2)]) hx hb dX6_inks_41 rfl hl (by decide) rfl (fun ls hl => ?_)
        obtain ⟨v42, ev42, hf⟩ := obd hf
        refine lv_iinc (v := v42) (lv' := [(2, .int v42), (1, .int v41), (0, .ref (o + 86))]) hx hb dX6_inks_42 hl (k := 2) rfl (iiE ev42 (by decide)) (by decide) rfl (fun ls hl => ?_)
        refine lv_goto (tgt := 4) hx hb dX6_inks_45 (by decide) ?_
        exact hk _ (Option.some.inj hf).symm H locs ls hI (lv_sub hl [2, 1, 0] rfl)
      · replace hf := ineg hc hf
        refine lv_iconst (v := (1 : Int32)) hx hb dX6_inks_30 (by decide) ?_
        refine lv_iload_n hx hb dX6_inks_31 rfl (lv_at hl 2 rfl) ?_
        refine lv_bipush (v := (21 : Int32)) hx hb dX6_inks_32 (by decide) ?_
        refine lv_idiv hx hb dX6_inks_34 (by decide) ?_
        refine lv_ishl hx hb dX6_inks_35 ?_
        refine lv_goto (tgt := 40) hx hb dX6_inks_36 (by decide) ?_
        refine lv_ior hx hb dX6_inks_40 ?_
        obtain ⟨v41_4, ev41_4, hf⟩ := obd hf
        refine nmI ev41_4 ?_
        refine lv_istore_n (lv' := [(1, .int v41_4), (0, .ref (o + 86)), (2, .int w4.2)]) hx hb dX6_inks_41 rfl hl (by decide) rfl (fun ls hl => ?_)
        obtain ⟨v42_5, ev42_5, hf⟩ := obd hf
        refine lv_iinc (v := v42_5) (lv' := [(2, .int v42_5), (1, .int v41_4), (0, .ref (o + 86))]) hx hb dX6_inks_42 hl (k := 2) rfl (iiE ev42_5 (by decide)) (by decide) rfl (fun ls hl => ?_)
        refine lv_goto (tgt := 4) hx hb dX6_inks_45 (by decide) ?_
        exact hk _ (Option.some.inj hf).symm H locs ls hI (lv_sub hl [2, 1, 0] rfl)
  · skip
    intro H locs ls hI hl
    refine lv_iload_n hx hb dX6_inks_48 rfl (lv_at hl 0 rfl) ?_
    have hf := Option.some.inj hf
    rw [hf]
    exact hret H locs 49 ls hI dX6_inks_49

def X6_partAt_L5 (τ : Cs) (c1 : Int32) (c2 : Int32) (w5 : Int32 × Int32) : Option ((Int32 × Int32) ⊕ (Int32)) :=
  if ((cw τ 0 0 2) * (21 : Int32)) ≤ w5.2 then
    some (.inr w5.1)
  else
    (X6_fits τ w5.2).bind fun x27 =>
    if x27 = (0 : Int32) then
      (some (w5.1 + (0 : Int32))).bind fun v49 =>
      (some (w5.2 + (1 : Int32))).bind fun v50 =>
      some (.inl (v49, v50))
    else
      (X6_isRead τ w5.2 c1).bind fun x37 =>
      if x37 = (0 : Int32) then
        (some (w5.1 + (0 : Int32))).bind fun v49_5 =>
        (some (w5.2 + (1 : Int32))).bind fun v50_6 =>
        some (.inl (v49_5, v50_6))
      else
        (some (w5.1 + (1 : Int32))).bind fun v49_7 =>
        (some (w5.2 + (1 : Int32))).bind fun v50_8 =>
        some (.inl (v49_7, v50_8))
def X6_partAt (τ : Cs) (a1 : Int32) (a2 : Int32) : Option (Int32) :=
  (loopO (X6_partAt_L5 τ a1 a2) FU ((0 : Int32), (0 : Int32))).bind fun e5 =>
  some (if e5 < (a2 - e5) then (a2 - e5) else e5)
set_option maxHeartbeats 4000000 in
theorem mX6_partAt (Λ : Nat → Nat → (Nat → Int32) → Int32) (Λn : Nat → Int32) (τ : Cs) (a1 : Int32) (a2 : Int32) (r : Int32) (hf : X6_partAt τ a1 a2 = some r) : CMi yX6_partAt cX6_partAt 5 (some .int) 3 85 Λ Λn (fun o aK aF => [.ref (o + 86), .int a1, .int a2]) r τ τ := by
  refine CMi.of (by decide) (fun _ _ _ => Nat.le_of_ble_eq_true rfl) ?_
  intro p l e s m args below meth c D J o z aK aV G Ld aF Q ls hx hb hml hown hts hE hret hI hl
  obtain ⟨H, eH⟩ : ∃ H, H = s.heap := ⟨_, rfl⟩
  obtain ⟨locs, eL⟩ : ∃ L : List Loc, L = [] := ⟨_, rfl⟩
  rw [← eH, ← eL] at hI ⊢
  have hown : s.vm.findClass RX6 = some m.cls := hown
  have hl : lv_has ls 5 [(0, .ref (o + 86)), (1, .int a1), (2, .int a2)] := hl
  unfold X6_partAt at hf
  refine lv_iconst (v := (0 : Int32)) hx hb dX6_partAt_0 (by decide) ?_
  refine lv_istore_n (lv' := [(3, .int (0 : Int32)), (0, .ref (o + 86)), (1, .int a1), (2, .int a2)]) hx hb dX6_partAt_1 rfl hl (by decide) rfl (fun ls hl => ?_)
  refine lv_iconst (v := (0 : Int32)) hx hb dX6_partAt_2 (by decide) ?_
  refine lv_istore (lv' := [(4, .int (0 : Int32)), (3, .int (0 : Int32)), (0, .ref (o + 86)), (1, .int a1), (2, .int a2)]) hx hb dX6_partAt_3 hl (by decide) rfl (fun ls hl => ?_)
  obtain ⟨e5, he5, hf⟩ := obd hf
  have hs5 : ∀ (c1 : Int32) (c2 : Int32), ∀ (w5 : Int32 × Int32) (o5 : (Int32 × Int32) ⊕ (Int32)), X6_partAt_L5 τ c1 c2 w5 = some o5 → (∀ wx_, o5 = .inl wx_ → ∀ (H : Heap) (locs : List Loc) (ls : Array Slot), IC D J o Ld s H locs τ → lv_has ls 5 [(0, .ref (o + 86)), (1, .int c1), (2, .int c2), (3, .int wx_.1), (4, .int wx_.2)] → W p l e ({ frames := 3, cells := 0, slots := 0, locals := 85 } : Room) s m args below meth c H locs 0 0 Q (F0 m 5 ls [])) → (∀ ex_, o5 = .inr ex_ → ∀ (H : Heap) (locs : List Loc) (ls : Array Slot), IC D J o Ld s H locs τ → lv_has ls 5 [(2, .int c2), (3, .int ex_)] → W p l e ({ frames := 3, cells := 0, slots := 0, locals := 85 } : Room) s m args below meth c H locs 0 0 Q (F0 m 56 ls [])) → ∀ (H : Heap) (locs : List Loc) (ls : Array Slot), IC D J o Ld s H locs τ → lv_has ls 5 [(0, .ref (o + 86)), (1, .int c1), (2, .int c2), (3, .int w5.1), (4, .int w5.2)] → W p l e ({ frames := 3, cells := 0, slots := 0, locals := 85 } : Room) s m args below meth c H locs 0 0 Q (F0 m 5 ls []) := by
    intro c1 c2 w5 o5 hf hk hq H locs ls hI hl
    unfold X6_partAt_L5 at hf
    refine lv_iload hx hb dX6_partAt_5 (lv_at hl 4 rfl) ?_
    refine lv_aload_n hx hb dX6_partAt_7 rfl (lv_at hl 0 rfl) ?_
    refine gget hx hb hts in_X6 hown hE.1.1 (hI.1.o 5 rfl) rfl 2 (by decide) q455 rfl dX6_partAt_8 ?_
    refine ggetN hx hb hts in_X1 hown hE.1.1 (hI.1.o 0 rfl) rfl 0 (by decide) (hE.1.2.2.f 55 rfl) rfl dX6_partAt_11 ?_
    refine ggetN hx hb hts in_X2 hown hE.1.1 (hI.1.w 0 (by decide) 0 rfl) rfl 2 (by decide) (hE.1.2.2.f 2 rfl) rfl dX6_partAt_14 ?_
    refine lv_bipush (v := (21 : Int32)) hx hb dX6_partAt_17 (by decide) ?_
    refine lv_imul hx hb dX6_partAt_19 ?_
    refine lv_icmp_ge (tgt := 56) hx hb dX6_partAt_20 (by decide) (fun hc => ?_) (fun hc => ?_)
    · replace hf := ipos hc hf
      exact hq _ (Option.some.inj hf).symm H locs ls hI (lv_sub hl [2, 3] rfl)
    · replace hf := ineg hc hf
      refine lv_iload_n hx hb dX6_partAt_23 rfl (lv_at hl 3 rfl) ?_
      refine lv_aload_n hx hb dX6_partAt_24 rfl (lv_at hl 0 rfl) ?_
      refine lv_iload hx hb dX6_partAt_25 (lv_at hl 4 rfl) ?_
      obtain ⟨x27, ex27, hf⟩ := obd hf
      refine ccallI (rest := [.int w5.1]) hx hb hts hown hE hI hml hl.1 (mX6_fits Λ Λn τ w5.2 _ ex27) (cwX6_fits_X6 hts ⟨Nat.le_of_ble_eq_true rfl, Nat.le_of_ble_eq_true rfl⟩) (hI.1.o 5 rfl) rfl rfl ⟨Nat.le_of_ble_eq_true rfl, Nat.le_of_ble_eq_true rfl⟩ rfl rfl (lv_room (Nat.le_of_ble_eq_true rfl)) dX6_partAt_27 (fun H locs hI => ?_)
      refine lv_if_eq (tgt := 47) hx hb dX6_partAt_30 (by decide) (fun hc => ?_) (fun hc => ?_)
      · replace hf := ipos hc hf
        refine lv_iconst (v := (0 : Int32)) hx hb dX6_partAt_47 (by decide) ?_
        refine lv_iadd hx hb dX6_partAt_48 ?_
        obtain ⟨v49, ev49, hf⟩ := obd hf
        refine nmI ev49 ?_
        refine lv_istore_n (lv' := [(3, .int v49), (0, .ref (o + 86)), (1, .int c1), (2, .int c2), (4, .int w5.2)]) hx hb dX6_partAt_49 rfl hl (by decide) rfl (fun ls hl => ?_)
        obtain ⟨v50, ev50, hf⟩ := obd hf
        refine lv_iinc (v := v50) (lv' := [(4, .int v50), (3, .int v49), (0, .ref (o + 86)), (1, .int c1), (2, .int c2)]) hx hb dX6_partAt_50 hl (k := 4) rfl (iiE ev50 (by decide)) (by decide) rfl (fun ls hl => ?_)
        refine lv_goto (tgt := 5) hx hb dX6_partAt_53 (by decide) ?_
        exact hk _ (Option.some.inj hf).symm H locs ls hI (lv_sub hl [2, 3, 4, 1, 0] rfl)
      · replace hf := ineg hc hf
        refine lv_aload_n hx hb dX6_partAt_33 rfl (lv_at hl 0 rfl) ?_
        refine lv_iload hx hb dX6_partAt_34 (lv_at hl 4 rfl) ?_
        refine lv_iload_n hx hb dX6_partAt_36 rfl (lv_at hl 1 rfl) ?_
        obtain ⟨x37, ex37, hf⟩ := obd hf
        refine ccallI (rest := [.int w5.1]) hx hb hts hown hE hI hml hl.1 (mX6_isRead Λ Λn τ w5.2 c1 _ ex37) (cwX6_isRead_X6 hts ⟨Nat.le_of_ble_eq_true rfl, Nat.le_of_ble_eq_true rfl⟩) (hI.1.o 5 rfl) rfl rfl ⟨Nat.le_of_ble_eq_true rfl, Nat.le_of_ble_eq_true rfl⟩ rfl rfl (lv_room (Nat.le_of_ble_eq_true rfl)) dX6_partAt_37 (fun H locs hI => ?_)
        refine lv_if_eq (tgt := 47) hx hb dX6_partAt_40 (by decide) (fun hc => ?_) (fun hc => ?_)
        · replace hf := ipos hc hf
          refine lv_iconst (v := (0 : Int32)) hx hb dX6_partAt_47 (by decide) ?_
          refine lv_iadd hx hb dX6_partAt_48 ?_
          obtain ⟨v49_5, ev49_5, hf⟩ := obd hf
          refine nmI ev49_5 ?_
          refine lv_istore_n (lv' := [(3, .int v49_5), (0, .ref (o + 86)), (1, .int c1), (2, .int c2), (4, .int w5.2)]) hx hb dX6_partAt_49 rfl hl (by decide) rfl (fun ls hl => ?_)
          obtain ⟨v50_6, ev50_6, hf⟩ := obd hf
          refine lv_iinc (v := v50_6) (lv' := [(4, .int v50_6), (3, .int v49_5), (0, .ref (o + 86)), (1, .int c1), (2, .int c2)]) hx hb dX6_partAt_50 hl (k := 4) rfl (iiE ev50_6 (by decide)) (by decide) rfl (fun ls hl => ?_)
          refine lv_goto (tgt := 5) hx hb dX6_partAt_53 (by decide) ?_
          exact hk _ (Option.some.inj hf).symm H locs ls hI (lv_sub hl [2, 3, 4, 1, 0] rfl)
        · replace hf := ineg hc hf
          refine lv_iconst (v := (1 : Int32)) hx hb dX6_partAt_43 (by decide) ?_
          refine lv_goto (tgt := 48) hx hb dX6_partAt_44 (by decide) ?_
          refine lv_iadd hx hb dX6_partAt_48 ?_
          obtain ⟨v49_7, ev49_7, hf⟩ := obd hf
          refine nmI ev49_7 ?_
          refine lv_istore_n (lv' := [(3, .int v49_7), (0, .ref (o + 86)), (1, .int c1), (2, .int c2), (4, .int w5.2)]) hx hb dX6_partAt_49 rfl hl (by decide) rfl (fun ls hl => ?_)
          obtain ⟨v50_8, ev50_8, hf⟩ := obd hf
          refine lv_iinc (v := v50_8) (lv' := [(4, .int v50_8), (3, .int v49_7), (0, .ref (o + 86)), (1, .int c1), (2, .int c2)]) hx hb dX6_partAt_50 hl (k := 4) rfl (iiE ev50_8 (by decide)) (by decide) rfl (fun ls hl => ?_)
          refine lv_goto (tgt := 5) hx hb dX6_partAt_53 (by decide) ?_
          exact hk _ (Option.some.inj hf).symm H locs ls hI (lv_sub hl [2, 3, 4, 1, 0] rfl)
  refine loopO_W (Wat := fun w5 => ∀ (H : Heap) (locs : List Loc) (ls : Array Slot), IC D J o Ld s H locs τ → lv_has ls 5 [(0, .ref (o + 86)), (1, .int a1), (2, .int a2), (3, .int w5.1), (4, .int w5.2)] → W p l e ({ frames := 3, cells := 0, slots := 0, locals := 85 } : Room) s m args below meth c H locs 0 0 Q (F0 m 5 ls [])) (Wex := fun ex_ => ∀ (H : Heap) (locs : List Loc) (ls : Array Slot), IC D J o Ld s H locs τ → lv_has ls 5 [(2, .int a2), (3, .int ex_)] → W p l e ({ frames := 3, cells := 0, slots := 0, locals := 85 } : Room) s m args below meth c H locs 0 0 Q (F0 m 56 ls [])) (hs5 a1 a2) FU _ e5 he5 ?_ H locs ls hI (lv_sub hl [2, 3, 4, 1, 0] rfl)
  · skip
    intro H locs ls hI hl
    refine lv_iload_n hx hb dX6_partAt_56 rfl (lv_at hl 1 rfl) ?_
    refine lv_iload_n hx hb dX6_partAt_57 rfl (lv_at hl 0 rfl) ?_
    refine lv_iload_n hx hb dX6_partAt_58 rfl (lv_at hl 1 rfl) ?_
    refine lv_isub hx hb dX6_partAt_59 ?_
    refine va_mmax hx hb (hml.trans hl.1.symm) hown (hts _ q1965) (hts _ q679) (hts _ q150) (hts _ q680) (Nat.le_of_ble_eq_true rfl) (Nat.le_of_ble_eq_true rfl) (Nat.le_of_ble_eq_true rfl) (Nat.le_of_ble_eq_true rfl) dX6_partAt_60 ?_
    have hf := Option.some.inj hf
    rw [hf]
    exact hret H locs 63 ls hI dX6_partAt_63

theorem cwX6_many_X6 {R : Room} {s : State} {args : Array Value} {fr lo : Nat} (hts : ∀ w ∈ lw_all, w.before args s = true) (hR : fr + 1 ≤ R.frames ∧ 8 + (3 + 11) + lo ≤ R.locals) : CallW R s args RX6 RX6 77 yX6_many cX6_many 3 (some .int) (ws_ yX6_many cX6_many 3 (some .int)) ({ frames := fr, cells := 0, slots := 0, locals := lo }) 0 0 0 :=
  cwV 0 hts (lw_V q1960 q1946 q1947 q142 q1948) rfl rfl rfl (by decide +kernel) hR
theorem cwX6_partAt_X6 {R : Room} {s : State} {args : Array Value} {fr lo : Nat} (hts : ∀ w ∈ lw_all, w.before args s = true) (hR : fr + 1 ≤ R.frames ∧ 8 + (5 + 11) + lo ≤ R.locals) : CallW R s args RX6 RX6 81 yX6_partAt cX6_partAt 5 (some .int) (ws_ yX6_partAt cX6_partAt 5 (some .int)) ({ frames := fr, cells := 0, slots := 0, locals := lo }) 0 0 2 :=
  cwV 2 hts (lw_V q1961 q1963 qs51 q142 q1964) rfl rfl rfl (by decide +kernel) hR
def X6_ask_L13 (τ : Cs) (c1 : Int32) (w13 : Int32 × Int32 × Int32) : Option ((Int32 × Int32 × Int32) ⊕ (Int32)) :=
  if (60 : Int32) < w13.2.2 then
    some (.inr w13.1)
  else
    if c1 ≤ (1 : Int32) then
      some (.inr w13.1)
    else
      (X6_partAt τ w13.2.2 c1).bind fun x29 =>
      if x29 < w13.2.1 then
        (some (w13.2.2 + (1 : Int32))).bind fun v49 =>
        some (.inl (w13.2.2, x29, v49))
      else
        (some (w13.2.2 + (1 : Int32))).bind fun v49_4 =>
        some (.inl (w13.1, w13.2.1, v49_4))
def X6_ask (τ : Cs) : Option (Int32) :=
  (X6_many τ).bind fun x1 =>
  (loopO (X6_ask_L13 τ x1) FU ((-1 : Int32), (100000000 : Int32), (0 : Int32))).bind fun e13 =>
  some e13
set_option maxHeartbeats 4000000 in
theorem mX6_ask (Λ : Nat → Nat → (Nat → Int32) → Int32) (Λn : Nat → Int32) (τ : Cs) (r : Int32) (hf : X6_ask τ = some r) : CMi yX6_ask cX6_ask 6 (some .int) 4 109 Λ Λn (fun o aK aF => [.ref (o + 86)]) r τ τ := by
  refine CMi.of (by decide) (fun _ _ _ => Nat.le_of_ble_eq_true rfl) ?_
  intro p l e s m args below meth c D J o z aK aV G Ld aF Q ls hx hb hml hown hts hE hret hI hl
  obtain ⟨H, eH⟩ : ∃ H, H = s.heap := ⟨_, rfl⟩
  obtain ⟨locs, eL⟩ : ∃ L : List Loc, L = [] := ⟨_, rfl⟩
  rw [← eH, ← eL] at hI ⊢
  have hown : s.vm.findClass RX6 = some m.cls := hown
  have hl : lv_has ls 6 [(0, .ref (o + 86))] := hl
  unfold X6_ask at hf
  refine lv_aload_n hx hb dX6_ask_0 rfl (lv_at hl 0 rfl) ?_
  obtain ⟨x1, ex1, hf⟩ := obd hf
  refine ccallI (rest := []) hx hb hts hown hE hI hml hl.1 (mX6_many Λ Λn τ _ ex1) (cwX6_many_X6 hts ⟨Nat.le_of_ble_eq_true rfl, Nat.le_of_ble_eq_true rfl⟩) (hI.1.o 5 rfl) rfl rfl ⟨Nat.le_of_ble_eq_true rfl, Nat.le_of_ble_eq_true rfl⟩ rfl rfl (lv_room (Nat.le_of_ble_eq_true rfl)) dX6_ask_1 (fun H locs hI => ?_)
  refine lv_istore_n (lv' := [(1, .int x1), (0, .ref (o + 86))]) hx hb dX6_ask_4 rfl hl (by decide) rfl (fun ls hl => ?_)
  refine lv_iconst (v := (-1 : Int32)) hx hb dX6_ask_5 (by decide) ?_
  refine lv_istore_n (lv' := [(2, .int (-1 : Int32)), (1, .int x1), (0, .ref (o + 86))]) hx hb dX6_ask_6 rfl hl (by decide) rfl (fun ls hl => ?_)
  refine lv_ldc hx hb hown (hts _ q1932) dX6_ask_7 ?_
  refine lv_istore_n (lv' := [(3, .int (100000000 : Int32)), (2, .int (-1 : Int32)), (1, .int x1), (0, .ref (o + 86))]) hx hb dX6_ask_9 rfl hl (by decide) rfl (fun ls hl => ?_)
  refine lv_iconst (v := (0 : Int32)) hx hb dX6_ask_10 (by decide) ?_
  refine lv_istore (lv' := [(4, .int (0 : Int32)), (3, .int (100000000 : Int32)), (2, .int (-1 : Int32)), (1, .int x1), (0, .ref (o + 86))]) hx hb dX6_ask_11 hl (by decide) rfl (fun ls hl => ?_)
  obtain ⟨e13, he13, hf⟩ := obd hf
  have hs13 : ∀ (c1 : Int32), ∀ (w13 : Int32 × Int32 × Int32) (o13 : (Int32 × Int32 × Int32) ⊕ (Int32)), X6_ask_L13 τ c1 w13 = some o13 → (∀ wx_, o13 = .inl wx_ → ∀ (H : Heap) (locs : List Loc) (ls : Array Slot), IC D J o Ld s H locs τ → lv_has ls 6 [(0, .ref (o + 86)), (1, .int c1), (2, .int wx_.1), (3, .int wx_.2.1), (4, .int wx_.2.2)] → W p l e ({ frames := 4, cells := 0, slots := 0, locals := 109 } : Room) s m args below meth c H locs 0 0 Q (F0 m 13 ls [])) → (∀ ex_, o13 = .inr ex_ → ∀ (H : Heap) (locs : List Loc) (ls : Array Slot), IC D J o Ld s H locs τ → lv_has ls 6 [(2, .int ex_)] → W p l e ({ frames := 4, cells := 0, slots := 0, locals := 109 } : Room) s m args below meth c H locs 0 0 Q (F0 m 55 ls [])) → ∀ (H : Heap) (locs : List Loc) (ls : Array Slot), IC D J o Ld s H locs τ → lv_has ls 6 [(0, .ref (o + 86)), (1, .int c1), (2, .int w13.1), (3, .int w13.2.1), (4, .int w13.2.2)] → W p l e ({ frames := 4, cells := 0, slots := 0, locals := 109 } : Room) s m args below meth c H locs 0 0 Q (F0 m 13 ls []) := by
    intro c1 w13 o13 hf hk hq H locs ls hI hl
    unfold X6_ask_L13 at hf
    refine lv_iload hx hb dX6_ask_13 (lv_at hl 4 rfl) ?_
    refine lv_bipush (v := (60 : Int32)) hx hb dX6_ask_15 (by decide) ?_
    refine lv_icmp_gt (tgt := 55) hx hb dX6_ask_17 (by decide) (fun hc => ?_) (fun hc => ?_)
    · replace hf := ipos hc hf
      exact hq _ (Option.some.inj hf).symm H locs ls hI (lv_sub hl [2] rfl)
    · replace hf := ineg hc hf
      refine lv_iload_n hx hb dX6_ask_20 rfl (lv_at hl 1 rfl) ?_
      refine lv_iconst (v := (1 : Int32)) hx hb dX6_ask_21 (by decide) ?_
      refine lv_icmp_le (tgt := 55) hx hb dX6_ask_22 (by decide) (fun hc => ?_) (fun hc => ?_)
      · replace hf := ipos hc hf
        exact hq _ (Option.some.inj hf).symm H locs ls hI (lv_sub hl [2] rfl)
      · replace hf := ineg hc hf
        refine lv_aload_n hx hb dX6_ask_25 rfl (lv_at hl 0 rfl) ?_
        refine lv_iload hx hb dX6_ask_26 (lv_at hl 4 rfl) ?_
        refine lv_iload_n hx hb dX6_ask_28 rfl (lv_at hl 1 rfl) ?_
        obtain ⟨x29, ex29, hf⟩ := obd hf
        refine ccallI (rest := []) hx hb hts hown hE hI hml hl.1 (mX6_partAt Λ Λn τ w13.2.2 c1 _ ex29) (cwX6_partAt_X6 hts ⟨Nat.le_of_ble_eq_true rfl, Nat.le_of_ble_eq_true rfl⟩) (hI.1.o 5 rfl) rfl rfl ⟨Nat.le_of_ble_eq_true rfl, Nat.le_of_ble_eq_true rfl⟩ rfl rfl (lv_room (Nat.le_of_ble_eq_true rfl)) dX6_ask_29 (fun H locs hI => ?_)
        refine lv_istore (lv' := [(5, .int x29), (0, .ref (o + 86)), (1, .int c1), (2, .int w13.1), (3, .int w13.2.1), (4, .int w13.2.2)]) hx hb dX6_ask_32 hl (by decide) rfl (fun ls hl => ?_)
        refine lv_iload hx hb dX6_ask_34 (lv_at hl 0 rfl) ?_
        refine lv_iload_n hx hb dX6_ask_36 rfl (lv_at hl 4 rfl) ?_
        refine lv_icmp_lt (tgt := 43) hx hb dX6_ask_37 (by decide) (fun hc => ?_) (fun hc => ?_)
        · replace hf := ipos hc hf
          refine lv_iload hx hb dX6_ask_43 (lv_at hl 5 rfl) ?_
          refine lv_istore_n (lv' := [(2, .int w13.2.2), (5, .int x29), (0, .ref (o + 86)), (1, .int c1), (3, .int w13.2.1), (4, .int w13.2.2)]) hx hb dX6_ask_45 rfl hl (by decide) rfl (fun ls hl => ?_)
          refine lv_iload hx hb dX6_ask_46 (lv_at hl 1 rfl) ?_
          refine lv_istore_n (lv' := [(3, .int x29), (2, .int w13.2.2), (5, .int x29), (0, .ref (o + 86)), (1, .int c1), (4, .int w13.2.2)]) hx hb dX6_ask_48 rfl hl (by decide) rfl (fun ls hl => ?_)
          obtain ⟨v49, ev49, hf⟩ := obd hf
          refine lv_iinc (v := v49) (lv' := [(4, .int v49), (3, .int x29), (2, .int w13.2.2), (5, .int x29), (0, .ref (o + 86)), (1, .int c1)]) hx hb dX6_ask_49 hl (k := 5) rfl (iiE ev49 (by decide)) (by decide) rfl (fun ls hl => ?_)
          refine lv_goto (tgt := 13) hx hb dX6_ask_52 (by decide) ?_
          exact hk _ (Option.some.inj hf).symm H locs ls hI (lv_sub hl [4, 5, 2, 1, 0] rfl)
        · replace hf := ineg hc hf
          refine lv_goto (tgt := 49) hx hb dX6_ask_40 (by decide) ?_
          obtain ⟨v49_4, ev49_4, hf⟩ := obd hf
          refine lv_iinc (v := v49_4) (lv' := [(4, .int v49_4), (5, .int x29), (0, .ref (o + 86)), (1, .int c1), (2, .int w13.1), (3, .int w13.2.1)]) hx hb dX6_ask_49 hl (k := 5) rfl (iiE ev49_4 (by decide)) (by decide) rfl (fun ls hl => ?_)
          refine lv_goto (tgt := 13) hx hb dX6_ask_52 (by decide) ?_
          exact hk _ (Option.some.inj hf).symm H locs ls hI (lv_sub hl [2, 3, 4, 5, 0] rfl)
  refine loopO_W (Wat := fun w13 => ∀ (H : Heap) (locs : List Loc) (ls : Array Slot), IC D J o Ld s H locs τ → lv_has ls 6 [(0, .ref (o + 86)), (1, .int x1), (2, .int w13.1), (3, .int w13.2.1), (4, .int w13.2.2)] → W p l e ({ frames := 4, cells := 0, slots := 0, locals := 109 } : Room) s m args below meth c H locs 0 0 Q (F0 m 13 ls [])) (Wex := fun ex_ => ∀ (H : Heap) (locs : List Loc) (ls : Array Slot), IC D J o Ld s H locs τ → lv_has ls 6 [(2, .int ex_)] → W p l e ({ frames := 4, cells := 0, slots := 0, locals := 109 } : Room) s m args below meth c H locs 0 0 Q (F0 m 55 ls [])) (hs13 x1) FU _ e13 he13 ?_ H locs ls hI (lv_sub hl [4, 3, 2, 1, 0] rfl)
  · skip
    intro H locs ls hI hl
    refine lv_iload_n hx hb dX6_ask_55 rfl (lv_at hl 0 rfl) ?_
    have hf := Option.some.inj hf
    rw [hf]
    exact hret H locs 56 ls hI dX6_ask_56

def X3_cut (τ : Cs) (a1 : Int32) : Option (Int32 × Cs) :=
  if a1 < (0 : Int32) then
    some ((0 : Int32), τ)
  else
    if a1 ≤ (co τ 1 1) then
      (some (cou τ (mup (co τ) 1 1 a1))).bind fun t16 =>
      some ((1 : Int32), t16)
    else
      some ((0 : Int32), τ)
set_option maxHeartbeats 4000000 in
theorem mX3_cut (Λ : Nat → Nat → (Nat → Int32) → Int32) (Λn : Nat → Int32) (τ : Cs) (a1 : Int32) (r : Int32) (τ' : Cs) (hf : X3_cut τ a1 = some (r, τ')) : CMi yX3_cut cX3_cut 2 (some .boolean) 1 40 Λ Λn (fun o aK aF => [.ref (o + 61), .int a1]) r τ τ' := by
  refine CMz.of (by decide) (fun _ _ _ => Nat.le_of_ble_eq_true rfl) ?_
  intro p l e s m args below meth c D J o z aK aV G Ld aF Q ls hx hb hml hown hts hE hret hI hl
  obtain ⟨H, eH⟩ : ∃ H, H = s.heap := ⟨_, rfl⟩
  obtain ⟨locs, eL⟩ : ∃ L : List Loc, L = [] := ⟨_, rfl⟩
  rw [← eH, ← eL] at hI ⊢
  have hown : s.vm.findClass RX3 = some m.cls := hown
  have hl : lv_has ls 2 [(0, .ref (o + 61)), (1, .int a1)] := hl
  unfold X3_cut at hf
  refine lv_iload_n hx hb dX3_cut_0 rfl (lv_at hl 1 rfl) ?_
  refine lv_if_lt (tgt := 12) hx hb dX3_cut_1 (by decide) (fun hc => ?_) (fun hc => ?_)
  · replace hf := ipos hc hf
    refine lv_iconst (v := (0 : Int32)) hx hb dX3_cut_12 (by decide) ?_
    have hf := Prod.mk.inj (Option.some.inj hf)
    rw [hf.1]
    exact hret H locs 13 ls (hf.2 ▸ hI) (hf.1 ▸ (by decide)) dX3_cut_13
  · replace hf := ineg hc hf
    refine lv_iload_n hx hb dX3_cut_4 rfl (lv_at hl 1 rfl) ?_
    refine lv_aload_n hx hb dX3_cut_5 rfl (lv_at hl 0 rfl) ?_
    refine gget hx hb hts in_X3 hown hE.1.1 (hI.1.o 1 rfl) rfl 1 (by decide) q328 rfl dX3_cut_6 ?_
    refine lv_icmp_le (tgt := 14) hx hb dX3_cut_9 (by decide) (fun hc => ?_) (fun hc => ?_)
    · replace hf := ipos hc hf
      refine lv_aload_n hx hb dX3_cut_14 rfl (lv_at hl 0 rfl) ?_
      refine lv_iload_n hx hb dX3_cut_15 rfl (lv_at hl 1 rfl) ?_
      obtain ⟨t16, et16, hf⟩ := obd hf
      refine gput hx hb hts in_X3 tyX3 tyX3_ok nmX3 hown hE.1.1 (hI.1.o 1 rfl) rfl 1 (by decide) q328 rfl rfl rfl (Nat.le_of_ble_eq_true rfl) dX3_cut_16 (fun H locs h1 h2 h3 h4 => ?_)
      have hI := hI.putO (σ' := cou τ (mup (co τ) 1 1 a1)) (P := 1) rfl rfl ⟨rfl, rfl⟩ h1 h2 h3 h4
      rw [Option.some.inj et16] at hI
      refine lv_iconst (v := (1 : Int32)) hx hb dX3_cut_19 (by decide) ?_
      have hf := Prod.mk.inj (Option.some.inj hf)
      rw [hf.1]
      exact hret H locs 20 ls (hf.2 ▸ hI) (hf.1 ▸ (by decide)) dX3_cut_20
    · replace hf := ineg hc hf
      refine lv_iconst (v := (0 : Int32)) hx hb dX3_cut_12 (by decide) ?_
      have hf := Prod.mk.inj (Option.some.inj hf)
      rw [hf.1]
      exact hret H locs 13 ls (hf.2 ▸ hI) (hf.1 ▸ (by decide)) dX3_cut_13

def X3_begins (τ : Cs) : Option (Cs) :=
  (some (cou τ (mup (co τ) 1 2 (co τ 1 1)))).bind fun t5 =>
  (some (cou t5 (mup (co t5) 1 1 (0 : Int32)))).bind fun t10 =>
  (some (cou t10 (mup (co t10) 1 3 (0 : Int32)))).bind fun t15 =>
  (some (cou t15 (mup (co t15) 1 6 (0 : Int32)))).bind fun t20 =>
  some t20
set_option maxHeartbeats 4000000 in
theorem mX3_begins (Λ : Nat → Nat → (Nat → Int32) → Int32) (Λn : Nat → Int32) (τ : Cs) (τ' : Cs) (hf : X3_begins τ = some τ') : CMv yX3_begins cX3_begins 1 none 1 40 Λ Λn (fun o aK aF => [.ref (o + 61)]) τ τ' := by
  refine CMv.of (by decide) (fun _ _ _ => Nat.le_of_ble_eq_true rfl) ?_
  intro p l e s m args below meth c D J o z aK aV G Ld aF Q ls hx hb hml hown hts hE hret hI hl
  obtain ⟨H, eH⟩ : ∃ H, H = s.heap := ⟨_, rfl⟩
  obtain ⟨locs, eL⟩ : ∃ L : List Loc, L = [] := ⟨_, rfl⟩
  rw [← eH, ← eL] at hI ⊢
  have hown : s.vm.findClass RX3 = some m.cls := hown
  have hl : lv_has ls 1 [(0, .ref (o + 61))] := hl
  unfold X3_begins at hf
  refine lv_aload_n hx hb dX3_begins_0 rfl (lv_at hl 0 rfl) ?_
  refine lv_aload_n hx hb dX3_begins_1 rfl (lv_at hl 0 rfl) ?_
  refine gget hx hb hts in_X3 hown hE.1.1 (hI.1.o 1 rfl) rfl 1 (by decide) q328 rfl dX3_begins_2 ?_
  obtain ⟨t5, et5, hf⟩ := obd hf
  refine gput hx hb hts in_X3 tyX3 tyX3_ok nmX3 hown hE.1.1 (hI.1.o 1 rfl) rfl 2 (by decide) q330 rfl rfl rfl (Nat.le_of_ble_eq_true rfl) dX3_begins_5 (fun H locs h1 h2 h3 h4 => ?_)
  have hI := hI.putO (σ' := cou τ (mup (co τ) 1 2 (co τ 1 1))) (P := 1) rfl rfl ⟨rfl, rfl⟩ h1 h2 h3 h4
  rw [Option.some.inj et5] at hI
  refine lv_aload_n hx hb dX3_begins_8 rfl (lv_at hl 0 rfl) ?_
  refine lv_iconst (v := (0 : Int32)) hx hb dX3_begins_9 (by decide) ?_
  obtain ⟨t10, et10, hf⟩ := obd hf
  refine gput hx hb hts in_X3 tyX3 tyX3_ok nmX3 hown hE.1.1 (hI.1.o 1 rfl) rfl 1 (by decide) q328 rfl rfl rfl (Nat.le_of_ble_eq_true rfl) dX3_begins_10 (fun H locs h1 h2 h3 h4 => ?_)
  have hI := hI.putO (σ' := cou t5 (mup (co t5) 1 1 (0 : Int32))) (P := 1) rfl rfl ⟨rfl, rfl⟩ h1 h2 h3 h4
  rw [Option.some.inj et10] at hI
  refine lv_aload_n hx hb dX3_begins_13 rfl (lv_at hl 0 rfl) ?_
  refine lv_iconst (v := (0 : Int32)) hx hb dX3_begins_14 (by decide) ?_
  obtain ⟨t15, et15, hf⟩ := obd hf
  refine gput hx hb hts in_X3 tyX3 tyX3_ok nmX3 hown hE.1.1 (hI.1.o 1 rfl) rfl 3 (by decide) q331 rfl rfl rfl (Nat.le_of_ble_eq_true rfl) dX3_begins_15 (fun H locs h1 h2 h3 h4 => ?_)
  have hI := hI.putO (σ' := cou t10 (mup (co t10) 1 3 (0 : Int32))) (P := 1) rfl rfl ⟨rfl, rfl⟩ h1 h2 h3 h4
  rw [Option.some.inj et15] at hI
  refine lv_aload_n hx hb dX3_begins_18 rfl (lv_at hl 0 rfl) ?_
  refine lv_iconst (v := (0 : Int32)) hx hb dX3_begins_19 (by decide) ?_
  obtain ⟨t20, et20, hf⟩ := obd hf
  refine gput hx hb hts in_X3 tyX3 tyX3_ok nmX3 hown hE.1.1 (hI.1.o 1 rfl) rfl 6 (by decide) q336 rfl rfl rfl (Nat.le_of_ble_eq_true rfl) dX3_begins_20 (fun H locs h1 h2 h3 h4 => ?_)
  have hI := hI.putO (σ' := cou t15 (mup (co t15) 1 6 (0 : Int32))) (P := 1) rfl rfl ⟨rfl, rfl⟩ h1 h2 h3 h4
  rw [Option.some.inj et20] at hI
  exact hret H locs 23 ls ((Option.some.inj hf) ▸ hI) dX3_begins_23

def X3_byteAt (τ : Cs) (a1 : Int32) : Option (Int32) :=
  if (co τ 1 2) ≤ a1 then
    some (-1 : Int32)
  else
    (ld 400 (co τ 2) a1).bind fun x13 =>
    some x13
set_option maxHeartbeats 4000000 in
theorem mX3_byteAt (Λ : Nat → Nat → (Nat → Int32) → Int32) (Λn : Nat → Int32) (τ : Cs) (a1 : Int32) (r : Int32) (hf : X3_byteAt τ a1 = some r) : CMi yX3_byteAt cX3_byteAt 2 (some .int) 1 40 Λ Λn (fun o aK aF => [.ref (o + 61), .int a1]) r τ τ := by
  refine CMi.of (by decide) (fun _ _ _ => Nat.le_of_ble_eq_true rfl) ?_
  intro p l e s m args below meth c D J o z aK aV G Ld aF Q ls hx hb hml hown hts hE hret hI hl
  obtain ⟨H, eH⟩ : ∃ H, H = s.heap := ⟨_, rfl⟩
  obtain ⟨locs, eL⟩ : ∃ L : List Loc, L = [] := ⟨_, rfl⟩
  rw [← eH, ← eL] at hI ⊢
  have hown : s.vm.findClass RX3 = some m.cls := hown
  have hl : lv_has ls 2 [(0, .ref (o + 61)), (1, .int a1)] := hl
  unfold X3_byteAt at hf
  refine lv_iload_n hx hb dX3_byteAt_0 rfl (lv_at hl 1 rfl) ?_
  refine lv_aload_n hx hb dX3_byteAt_1 rfl (lv_at hl 0 rfl) ?_
  refine gget hx hb hts in_X3 hown hE.1.1 (hI.1.o 1 rfl) rfl 2 (by decide) q330 rfl dX3_byteAt_2 ?_
  refine lv_icmp_ge (tgt := 17) hx hb dX3_byteAt_5 (by decide) (fun hc => ?_) (fun hc => ?_)
  · replace hf := ipos hc hf
    refine lv_iconst (v := (-1 : Int32)) hx hb dX3_byteAt_17 (by decide) ?_
    have hf := Option.some.inj hf
    rw [hf]
    exact hret H locs 18 ls hI dX3_byteAt_18
  · replace hf := ineg hc hf
    refine lv_aload_n hx hb dX3_byteAt_8 rfl (lv_at hl 0 rfl) ?_
    refine gget hx hb hts in_X3 hown hE.1.1 (hI.1.o 1 rfl) rfl 0 (by decide) q326 rfl dX3_byteAt_9 ?_
    refine lv_iload_n hx hb dX3_byteAt_12 rfl (lv_at hl 1 rfl) ?_
    obtain ⟨x13, ex13, hf⟩ := obd hf
    refine gbld hx hb hE.1.1 2 (hI.1.o 2 rfl) rfl ex13 dX3_byteAt_13 ?_
    refine lv_goto (tgt := 18) hx hb dX3_byteAt_14 (by decide) ?_
    have hf := Option.some.inj hf
    rw [hf]
    exact hret H locs 18 ls hI dX3_byteAt_18

theorem cwX3_byteAt_X3 {R : Room} {s : State} {args : Array Value} {fr lo : Nat} (hts : ∀ w ∈ lw_all, w.before args s = true) (hR : fr + 1 ≤ R.frames ∧ 8 + (2 + 11) + lo ≤ R.locals) : CallW R s args RX3 RX3 31 yX3_byteAt cX3_byteAt 2 (some .int) (ws_ yX3_byteAt cX3_byteAt 2 (some .int)) ({ frames := fr, cells := 0, slots := 0, locals := lo }) 0 0 1 :=
  cwV 1 hts (lw_V q854 q856 qs16 q136 q857) rfl rfl rfl (by decide +kernel) hR
def X3_blanks_L0 (w0 : Cs) : Option ((Cs) ⊕ (Cs)) :=
  (X3_byteAt w0 (co w0 1 3)).bind fun x5 =>
  if x5 = (32 : Int32) then
    (some (cou w0 (mup (co w0) 1 3 ((co w0 1 3) + (1 : Int32))))).bind fun t20 =>
    some (.inl t20)
  else
    some (.inr w0)
def X3_blanks (τ : Cs) : Option (Cs) :=
  (loopO (X3_blanks_L0) FU τ).bind fun e0 =>
  (some (cou e0 (mup (co e0) 1 4 (co e0 1 3)))).bind fun t31 =>
  some t31
set_option maxHeartbeats 4000000 in
theorem mX3_blanks (Λ : Nat → Nat → (Nat → Int32) → Int32) (Λn : Nat → Int32) (τ : Cs) (τ' : Cs) (hf : X3_blanks τ = some τ') : CMv yX3_blanks cX3_blanks 1 none 2 61 Λ Λn (fun o aK aF => [.ref (o + 61)]) τ τ' := by
  refine CMv.of (by decide) (fun _ _ _ => Nat.le_of_ble_eq_true rfl) ?_
  intro p l e s m args below meth c D J o z aK aV G Ld aF Q ls hx hb hml hown hts hE hret hI hl
  obtain ⟨H, eH⟩ : ∃ H, H = s.heap := ⟨_, rfl⟩
  obtain ⟨locs, eL⟩ : ∃ L : List Loc, L = [] := ⟨_, rfl⟩
  rw [← eH, ← eL] at hI ⊢
  have hown : s.vm.findClass RX3 = some m.cls := hown
  have hl : lv_has ls 1 [(0, .ref (o + 61))] := hl
  unfold X3_blanks at hf
  obtain ⟨e0, he0, hf⟩ := obd hf
  refine loopO_W (Wat := fun w0 => ∀ (H : Heap) (locs : List Loc) (ls : Array Slot), IC D J o Ld s H locs w0 → lv_has ls 1 [(0, .ref (o + 61))] → W p l e ({ frames := 2, cells := 0, slots := 0, locals := 61 } : Room) s m args below meth c H locs 0 0 Q (F0 m 0 ls [])) (Wex := fun ex_ => ∀ (H : Heap) (locs : List Loc) (ls : Array Slot), IC D J o Ld s H locs ex_ → lv_has ls 1 [(0, .ref (o + 61))] → W p l e ({ frames := 2, cells := 0, slots := 0, locals := 61 } : Room) s m args below meth c H locs 0 0 Q (F0 m 26 ls [])) (fun w0 o0 hf hk hq => ?_) FU _ e0 he0 ?_ H locs ls hI (lv_sub hl [0] rfl)
  · intro H locs ls hI hl
    unfold X3_blanks_L0 at hf
    refine lv_aload_n hx hb dX3_blanks_0 rfl (lv_at hl 0 rfl) ?_
    refine lv_aload_n hx hb dX3_blanks_1 rfl (lv_at hl 0 rfl) ?_
    refine gget hx hb hts in_X3 hown hE.1.1 (hI.1.o 1 rfl) rfl 3 (by decide) q331 rfl dX3_blanks_2 ?_
    obtain ⟨x5, ex5, hf⟩ := obd hf
    refine ccallI (rest := []) hx hb hts hown hE hI hml hl.1 (mX3_byteAt Λ Λn w0 (co w0 1 3) _ ex5) (cwX3_byteAt_X3 hts ⟨Nat.le_of_ble_eq_true rfl, Nat.le_of_ble_eq_true rfl⟩) (hI.1.o 1 rfl) rfl rfl ⟨Nat.le_of_ble_eq_true rfl, Nat.le_of_ble_eq_true rfl⟩ rfl rfl (lv_room (Nat.le_of_ble_eq_true rfl)) dX3_blanks_5 (fun H locs hI => ?_)
    refine lv_bipush (v := (32 : Int32)) hx hb dX3_blanks_8 (by decide) ?_
    refine lv_icmp_ne (tgt := 26) hx hb dX3_blanks_10 (by decide) (fun hc => ?_) (fun hc => ?_)
    · replace hf := ineg hc hf
      exact hq _ (Option.some.inj hf).symm H locs ls hI (lv_sub hl [0] rfl)
    · replace hf := ipos hc hf
      refine lv_aload_n hx hb dX3_blanks_13 rfl (lv_at hl 0 rfl) ?_
      refine lv_dup hx hb dX3_blanks_14 rfl ?_
      refine gget hx hb hts in_X3 hown hE.1.1 (hI.1.o 1 rfl) rfl 3 (by decide) q331 rfl dX3_blanks_15 ?_
      refine lv_iconst (v := (1 : Int32)) hx hb dX3_blanks_18 (by decide) ?_
      refine lv_iadd hx hb dX3_blanks_19 ?_
      obtain ⟨t20, et20, hf⟩ := obd hf
      refine gput hx hb hts in_X3 tyX3 tyX3_ok nmX3 hown hE.1.1 (hI.1.o 1 rfl) rfl 3 (by decide) q331 rfl rfl rfl (Nat.le_of_ble_eq_true rfl) dX3_blanks_20 (fun H locs h1 h2 h3 h4 => ?_)
      have hI := hI.putO (σ' := cou w0 (mup (co w0) 1 3 ((co w0 1 3) + (1 : Int32)))) (P := 1) rfl rfl ⟨rfl, rfl⟩ h1 h2 h3 h4
      rw [Option.some.inj et20] at hI
      refine lv_goto (tgt := 0) hx hb dX3_blanks_23 (by decide) ?_
      exact hk _ (Option.some.inj hf).symm H locs ls hI (lv_sub hl [0] rfl)
  · skip
    intro H locs ls hI hl
    refine lv_aload_n hx hb dX3_blanks_26 rfl (lv_at hl 0 rfl) ?_
    refine lv_aload_n hx hb dX3_blanks_27 rfl (lv_at hl 0 rfl) ?_
    refine gget hx hb hts in_X3 hown hE.1.1 (hI.1.o 1 rfl) rfl 3 (by decide) q331 rfl dX3_blanks_28 ?_
    obtain ⟨t31, et31, hf⟩ := obd hf
    refine gput hx hb hts in_X3 tyX3 tyX3_ok nmX3 hown hE.1.1 (hI.1.o 1 rfl) rfl 4 (by decide) q332 rfl rfl rfl (Nat.le_of_ble_eq_true rfl) dX3_blanks_31 (fun H locs h1 h2 h3 h4 => ?_)
    have hI := hI.putO (σ' := cou e0 (mup (co e0) 1 4 (co e0 1 3))) (P := 1) rfl rfl ⟨rfl, rfl⟩ h1 h2 h3 h4
    rw [Option.some.inj et31] at hI
    exact hret H locs 34 ls ((Option.some.inj hf) ▸ hI) dX3_blanks_34

theorem cwX3_blanks_X3 {R : Room} {s : State} {args : Array Value} {fr lo : Nat} (hts : ∀ w ∈ lw_all, w.before args s = true) (hR : fr + 1 ≤ R.frames ∧ 8 + (1 + 11) + lo ≤ R.locals) : CallW R s args RX3 RX3 38 yX3_blanks cX3_blanks 1 (none) (ws_ yX3_blanks cX3_blanks 1 (none)) ({ frames := fr, cells := 0, slots := 0, locals := lo }) 0 0 0 :=
  cwV 0 hts (lw_V q850 q851 q852 q136 q853) rfl rfl rfl (by decide +kernel) hR
def X3_isOver (τ : Cs) : Option (Int32 × Cs) :=
  (X3_blanks τ).bind fun t1 =>
  if (co t1 1 3) = (co t1 1 2) then
    some ((1 : Int32), t1)
  else
    some ((0 : Int32), t1)
set_option maxHeartbeats 4000000 in
theorem mX3_isOver (Λ : Nat → Nat → (Nat → Int32) → Int32) (Λn : Nat → Int32) (τ : Cs) (r : Int32) (τ' : Cs) (hf : X3_isOver τ = some (r, τ')) : CMi yX3_isOver cX3_isOver 1 (some .boolean) 3 81 Λ Λn (fun o aK aF => [.ref (o + 61)]) r τ τ' := by
  refine CMz.of (by decide) (fun _ _ _ => Nat.le_of_ble_eq_true rfl) ?_
  intro p l e s m args below meth c D J o z aK aV G Ld aF Q ls hx hb hml hown hts hE hret hI hl
  obtain ⟨H, eH⟩ : ∃ H, H = s.heap := ⟨_, rfl⟩
  obtain ⟨locs, eL⟩ : ∃ L : List Loc, L = [] := ⟨_, rfl⟩
  rw [← eH, ← eL] at hI ⊢
  have hown : s.vm.findClass RX3 = some m.cls := hown
  have hl : lv_has ls 1 [(0, .ref (o + 61))] := hl
  unfold X3_isOver at hf
  refine lv_aload_n hx hb dX3_isOver_0 rfl (lv_at hl 0 rfl) ?_
  obtain ⟨t1, et1, hf⟩ := obd hf
  refine ccallV (rest := []) hx hb hts hown hE hI hml hl.1 (mX3_blanks Λ Λn τ _ et1) (cwX3_blanks_X3 hts ⟨Nat.le_of_ble_eq_true rfl, Nat.le_of_ble_eq_true rfl⟩) (hI.1.o 1 rfl) rfl rfl ⟨Nat.le_of_ble_eq_true rfl, Nat.le_of_ble_eq_true rfl⟩ rfl rfl (lv_room (Nat.le_of_ble_eq_true rfl)) dX3_isOver_1 (fun H locs hI => ?_)
  refine lv_aload_n hx hb dX3_isOver_4 rfl (lv_at hl 0 rfl) ?_
  refine gget hx hb hts in_X3 hown hE.1.1 (hI.1.o 1 rfl) rfl 3 (by decide) q331 rfl dX3_isOver_5 ?_
  refine lv_aload_n hx hb dX3_isOver_8 rfl (lv_at hl 0 rfl) ?_
  refine gget hx hb hts in_X3 hown hE.1.1 (hI.1.o 1 rfl) rfl 2 (by decide) q330 rfl dX3_isOver_9 ?_
  refine lv_icmp_ne (tgt := 19) hx hb dX3_isOver_12 (by decide) (fun hc => ?_) (fun hc => ?_)
  · replace hf := ineg hc hf
    refine lv_iconst (v := (0 : Int32)) hx hb dX3_isOver_19 (by decide) ?_
    have hf := Prod.mk.inj (Option.some.inj hf)
    rw [hf.1]
    exact hret H locs 20 ls (hf.2 ▸ hI) (hf.1 ▸ (by decide)) dX3_isOver_20
  · replace hf := ipos hc hf
    refine lv_iconst (v := (1 : Int32)) hx hb dX3_isOver_15 (by decide) ?_
    refine lv_goto (tgt := 20) hx hb dX3_isOver_16 (by decide) ?_
    have hf := Prod.mk.inj (Option.some.inj hf)
    rw [hf.1]
    exact hret H locs 20 ls (hf.2 ▸ hI) (hf.1 ▸ (by decide)) dX3_isOver_20

def X3_sign (τ : Cs) (a1 : Int32) : Option (Int32 × Cs) :=
  (X3_blanks τ).bind fun t1 =>
  (X3_byteAt t1 (co t1 1 3)).bind fun x9 =>
  if x9 = a1 then
    (some (cou t1 (mup (co t1) 1 3 ((co t1 1 3) + (1 : Int32))))).bind fun t25 =>
    some ((1 : Int32), t25)
  else
    some ((0 : Int32), t1)
set_option maxHeartbeats 4000000 in
theorem mX3_sign (Λ : Nat → Nat → (Nat → Int32) → Int32) (Λn : Nat → Int32) (τ : Cs) (a1 : Int32) (r : Int32) (τ' : Cs) (hf : X3_sign τ a1 = some (r, τ')) : CMi yX3_sign cX3_sign 2 (some .boolean) 3 81 Λ Λn (fun o aK aF => [.ref (o + 61), .int a1]) r τ τ' := by
  refine CMz.of (by decide) (fun _ _ _ => Nat.le_of_ble_eq_true rfl) ?_
  intro p l e s m args below meth c D J o z aK aV G Ld aF Q ls hx hb hml hown hts hE hret hI hl
  obtain ⟨H, eH⟩ : ∃ H, H = s.heap := ⟨_, rfl⟩
  obtain ⟨locs, eL⟩ : ∃ L : List Loc, L = [] := ⟨_, rfl⟩
  rw [← eH, ← eL] at hI ⊢
  have hown : s.vm.findClass RX3 = some m.cls := hown
  have hl : lv_has ls 2 [(0, .ref (o + 61)), (1, .int a1)] := hl
  unfold X3_sign at hf
  refine lv_aload_n hx hb dX3_sign_0 rfl (lv_at hl 0 rfl) ?_
  obtain ⟨t1, et1, hf⟩ := obd hf
  refine ccallV (rest := []) hx hb hts hown hE hI hml hl.1 (mX3_blanks Λ Λn τ _ et1) (cwX3_blanks_X3 hts ⟨Nat.le_of_ble_eq_true rfl, Nat.le_of_ble_eq_true rfl⟩) (hI.1.o 1 rfl) rfl rfl ⟨Nat.le_of_ble_eq_true rfl, Nat.le_of_ble_eq_true rfl⟩ rfl rfl (lv_room (Nat.le_of_ble_eq_true rfl)) dX3_sign_1 (fun H locs hI => ?_)
  refine lv_aload_n hx hb dX3_sign_4 rfl (lv_at hl 0 rfl) ?_
  refine lv_aload_n hx hb dX3_sign_5 rfl (lv_at hl 0 rfl) ?_
  refine gget hx hb hts in_X3 hown hE.1.1 (hI.1.o 1 rfl) rfl 3 (by decide) q331 rfl dX3_sign_6 ?_
  obtain ⟨x9, ex9, hf⟩ := obd hf
  refine ccallI (rest := []) hx hb hts hown hE hI hml hl.1 (mX3_byteAt Λ Λn t1 (co t1 1 3) _ ex9) (cwX3_byteAt_X3 hts ⟨Nat.le_of_ble_eq_true rfl, Nat.le_of_ble_eq_true rfl⟩) (hI.1.o 1 rfl) rfl rfl ⟨Nat.le_of_ble_eq_true rfl, Nat.le_of_ble_eq_true rfl⟩ rfl rfl (lv_room (Nat.le_of_ble_eq_true rfl)) dX3_sign_9 (fun H locs hI => ?_)
  refine lv_iload_n hx hb dX3_sign_12 rfl (lv_at hl 1 rfl) ?_
  refine lv_icmp_eq (tgt := 18) hx hb dX3_sign_13 (by decide) (fun hc => ?_) (fun hc => ?_)
  · replace hf := ipos hc hf
    refine lv_aload_n hx hb dX3_sign_18 rfl (lv_at hl 0 rfl) ?_
    refine lv_dup hx hb dX3_sign_19 rfl ?_
    refine gget hx hb hts in_X3 hown hE.1.1 (hI.1.o 1 rfl) rfl 3 (by decide) q331 rfl dX3_sign_20 ?_
    refine lv_iconst (v := (1 : Int32)) hx hb dX3_sign_23 (by decide) ?_
    refine lv_iadd hx hb dX3_sign_24 ?_
    obtain ⟨t25, et25, hf⟩ := obd hf
    refine gput hx hb hts in_X3 tyX3 tyX3_ok nmX3 hown hE.1.1 (hI.1.o 1 rfl) rfl 3 (by decide) q331 rfl rfl rfl (Nat.le_of_ble_eq_true rfl) dX3_sign_25 (fun H locs h1 h2 h3 h4 => ?_)
    have hI := hI.putO (σ' := cou t1 (mup (co t1) 1 3 ((co t1 1 3) + (1 : Int32)))) (P := 1) rfl rfl ⟨rfl, rfl⟩ h1 h2 h3 h4
    rw [Option.some.inj et25] at hI
    refine lv_iconst (v := (1 : Int32)) hx hb dX3_sign_28 (by decide) ?_
    have hf := Prod.mk.inj (Option.some.inj hf)
    rw [hf.1]
    exact hret H locs 29 ls (hf.2 ▸ hI) (hf.1 ▸ (by decide)) dX3_sign_29
  · replace hf := ineg hc hf
    refine lv_iconst (v := (0 : Int32)) hx hb dX3_sign_16 (by decide) ?_
    have hf := Prod.mk.inj (Option.some.inj hf)
    rw [hf.1]
    exact hret H locs 17 ls (hf.2 ▸ hI) (hf.1 ▸ (by decide)) dX3_sign_17

theorem cnX1_in_X3 {R : Room} {s : State} {args : Array Value} {fr lo : Nat} (hts : ∀ w ∈ lw_all, w.before args s = true) (hN : NestE s) (hR : fr + 1 ≤ R.frames ∧ 8 + (3 + 11) + lo ≤ R.locals) : va_CN R s args RX3 41 yX1_in "LateInks" cX1_in 3 (some .boolean) (ws_ yX1_in cX1_in 3 (some .boolean)) ({ frames := fr, cells := 0, slots := 0, locals := lo }) 0 0 3 ∧ (Cond.static yX1_in).before args s = true ∧ True :=
  ⟨va_cnB 3 hts (lw_meth q868) rfl rfl rfl (hN.m 5 rfl) (hts _ q133) (by decide +kernel) hR, hts _ q867, trivial⟩
def X3_isFigure (τ : Cs) : Option (Int32 × Cs) :=
  (X3_blanks τ).bind fun t1 =>
  (X3_byteAt t1 (co t1 1 3)).bind fun x9 =>
  (X1_in x9 (48 : Int32) (57 : Int32)).bind fun x16 =>
  (zb x16).bind fun _ =>
  some (x16, t1)
set_option maxHeartbeats 4000000 in
theorem mX3_isFigure (Λ : Nat → Nat → (Nat → Int32) → Int32) (Λn : Nat → Int32) (τ : Cs) (r : Int32) (τ' : Cs) (hf : X3_isFigure τ = some (r, τ')) : CMi yX3_isFigure cX3_isFigure 1 (some .boolean) 3 81 Λ Λn (fun o aK aF => [.ref (o + 61)]) r τ τ' := by
  refine CMz.of (by decide) (fun _ _ _ => Nat.le_of_ble_eq_true rfl) ?_
  intro p l e s m args below meth c D J o z aK aV G Ld aF Q ls hx hb hml hown hts hE hret hI hl
  obtain ⟨H, eH⟩ : ∃ H, H = s.heap := ⟨_, rfl⟩
  obtain ⟨locs, eL⟩ : ∃ L : List Loc, L = [] := ⟨_, rfl⟩
  rw [← eH, ← eL] at hI ⊢
  have hown : s.vm.findClass RX3 = some m.cls := hown
  have hl : lv_has ls 1 [(0, .ref (o + 61))] := hl
  unfold X3_isFigure at hf
  refine lv_aload_n hx hb dX3_isFigure_0 rfl (lv_at hl 0 rfl) ?_
  obtain ⟨t1, et1, hf⟩ := obd hf
  refine ccallV (rest := []) hx hb hts hown hE hI hml hl.1 (mX3_blanks Λ Λn τ _ et1) (cwX3_blanks_X3 hts ⟨Nat.le_of_ble_eq_true rfl, Nat.le_of_ble_eq_true rfl⟩) (hI.1.o 1 rfl) rfl rfl ⟨Nat.le_of_ble_eq_true rfl, Nat.le_of_ble_eq_true rfl⟩ rfl rfl (lv_room (Nat.le_of_ble_eq_true rfl)) dX3_isFigure_1 (fun H locs hI => ?_)
  refine lv_aload_n hx hb dX3_isFigure_4 rfl (lv_at hl 0 rfl) ?_
  refine lv_aload_n hx hb dX3_isFigure_5 rfl (lv_at hl 0 rfl) ?_
  refine gget hx hb hts in_X3 hown hE.1.1 (hI.1.o 1 rfl) rfl 3 (by decide) q331 rfl dX3_isFigure_6 ?_
  obtain ⟨x9, ex9, hf⟩ := obd hf
  refine ccallI (rest := []) hx hb hts hown hE hI hml hl.1 (mX3_byteAt Λ Λn t1 (co t1 1 3) _ ex9) (cwX3_byteAt_X3 hts ⟨Nat.le_of_ble_eq_true rfl, Nat.le_of_ble_eq_true rfl⟩) (hI.1.o 1 rfl) rfl rfl ⟨Nat.le_of_ble_eq_true rfl, Nat.le_of_ble_eq_true rfl⟩ rfl rfl (lv_room (Nat.le_of_ble_eq_true rfl)) dX3_isFigure_9 (fun H locs hI => ?_)
  refine lv_bipush (v := (48 : Int32)) hx hb dX3_isFigure_12 (by decide) ?_
  refine lv_bipush (v := (57 : Int32)) hx hb dX3_isFigure_14 (by decide) ?_
  obtain ⟨x16, ex16, hf⟩ := obd hf
  refine tcallSN (rest := []) hx hb hts hown hml hl.1 (mX1_in x9 (48 : Int32) (57 : Int32) _ ex16) (cnX1_in_X3 hts hE.1.2.2 ⟨Nat.le_of_ble_eq_true rfl, Nat.le_of_ble_eq_true rfl⟩) ⟨Nat.le_of_ble_eq_true rfl, Nat.le_of_ble_eq_true rfl⟩ rfl rfl (lv_room (Nat.le_of_ble_eq_true rfl)) dX3_isFigure_16 ?_
  obtain ⟨_, eb19, hf⟩ := obd hf
  have hf := Prod.mk.inj (Option.some.inj hf)
  rw [hf.1]
  exact hret H locs 19 ls (hf.2 ▸ hI) (hf.1 ▸ (zb_e eb19).2) dX3_isFigure_19

def X3_comesUp (τ : Cs) : Option (Cs) :=
  (some (cou τ (mup (co τ) 1 6 ((co τ 1 6) - (1 : Int32))))).bind fun t7 =>
  some t7
set_option maxHeartbeats 4000000 in
theorem mX3_comesUp (Λ : Nat → Nat → (Nat → Int32) → Int32) (Λn : Nat → Int32) (τ : Cs) (τ' : Cs) (hf : X3_comesUp τ = some τ') : CMv yX3_comesUp cX3_comesUp 1 none 1 40 Λ Λn (fun o aK aF => [.ref (o + 61)]) τ τ' := by
  refine CMv.of (by decide) (fun _ _ _ => Nat.le_of_ble_eq_true rfl) ?_
  intro p l e s m args below meth c D J o z aK aV G Ld aF Q ls hx hb hml hown hts hE hret hI hl
  obtain ⟨H, eH⟩ : ∃ H, H = s.heap := ⟨_, rfl⟩
  obtain ⟨locs, eL⟩ : ∃ L : List Loc, L = [] := ⟨_, rfl⟩
  rw [← eH, ← eL] at hI ⊢
  have hown : s.vm.findClass RX3 = some m.cls := hown
  have hl : lv_has ls 1 [(0, .ref (o + 61))] := hl
  unfold X3_comesUp at hf
  refine lv_aload_n hx hb dX3_comesUp_0 rfl (lv_at hl 0 rfl) ?_
  refine lv_dup hx hb dX3_comesUp_1 rfl ?_
  refine gget hx hb hts in_X3 hown hE.1.1 (hI.1.o 1 rfl) rfl 6 (by decide) q336 rfl dX3_comesUp_2 ?_
  refine lv_iconst (v := (1 : Int32)) hx hb dX3_comesUp_5 (by decide) ?_
  refine lv_isub hx hb dX3_comesUp_6 ?_
  obtain ⟨t7, et7, hf⟩ := obd hf
  refine gput hx hb hts in_X3 tyX3 tyX3_ok nmX3 hown hE.1.1 (hI.1.o 1 rfl) rfl 6 (by decide) q336 rfl rfl rfl (Nat.le_of_ble_eq_true rfl) dX3_comesUp_7 (fun H locs h1 h2 h3 h4 => ?_)
  have hI := hI.putO (σ' := cou τ (mup (co τ) 1 6 ((co τ 1 6) - (1 : Int32)))) (P := 1) rfl rfl ⟨rfl, rfl⟩ h1 h2 h3 h4
  rw [Option.some.inj et7] at hI
  exact hret H locs 10 ls ((Option.some.inj hf) ▸ hI) dX3_comesUp_10

theorem cwX3_cut_X1 {R : Room} {s : State} {args : Array Value} {fr lo : Nat} (hts : ∀ w ∈ lw_all, w.before args s = true) (hR : fr + 1 ≤ R.frames ∧ 8 + (2 + 11) + lo ≤ R.locals) : CallW R s args RX1 RX3 76 yX3_cut cX3_cut 2 (some .boolean) (ws_ yX3_cut cX3_cut 2 (some .boolean)) ({ frames := fr, cells := 0, slots := 0, locals := lo }) 0 0 1 :=
  cwV 1 hts (lw_V q518 q519 q520 q136 q521) rfl rfl rfl (by decide +kernel) hR
def X1_end (τ : Cs) (a1 : Int32) : Option (Int32 × Cs) :=
  (X3_cut τ a1).bind fun x5 =>
  (zb x5.1).bind fun _ =>
  some (x5.1, x5.2)
set_option maxHeartbeats 4000000 in
theorem mX1_end (Λ : Nat → Nat → (Nat → Int32) → Int32) (Λn : Nat → Int32) (τ : Cs) (a1 : Int32) (r : Int32) (τ' : Cs) (hf : X1_end τ a1 = some (r, τ')) : CMi yX1_end cX1_end 2 (some .boolean) 2 61 Λ Λn (fun o aK aF => [.ref o, .int a1]) r τ τ' := by
  refine CMz.of (by decide) (fun _ _ _ => Nat.le_of_ble_eq_true rfl) ?_
  intro p l e s m args below meth c D J o z aK aV G Ld aF Q ls hx hb hml hown hts hE hret hI hl
  obtain ⟨H, eH⟩ : ∃ H, H = s.heap := ⟨_, rfl⟩
  obtain ⟨locs, eL⟩ : ∃ L : List Loc, L = [] := ⟨_, rfl⟩
  rw [← eH, ← eL] at hI ⊢
  have hown : s.vm.findClass RX1 = some m.cls := hown
  have hl : lv_has ls 2 [(0, .ref o), (1, .int a1)] := hl
  unfold X1_end at hf
  refine lv_aload_n hx hb dX1_end_0 rfl (lv_at hl 0 rfl) ?_
  refine gget hx hb hts in_X1 hown hE.1.1 (hI.1.o 0 rfl) rfl 4 (by decide) q469 rfl dX1_end_1 ?_
  refine lv_iload_n hx hb dX1_end_4 rfl (lv_at hl 1 rfl) ?_
  obtain ⟨x5, ex5, hf⟩ := obd hf
  refine ccallI (rest := []) hx hb hts hown hE hI hml hl.1 (mX3_cut Λ Λn τ a1 _ _ ex5) (cwX3_cut_X1 hts ⟨Nat.le_of_ble_eq_true rfl, Nat.le_of_ble_eq_true rfl⟩) (hI.1.o 1 rfl) rfl rfl ⟨Nat.le_of_ble_eq_true rfl, Nat.le_of_ble_eq_true rfl⟩ rfl rfl (lv_room (Nat.le_of_ble_eq_true rfl)) dX1_end_5 (fun H locs hI => ?_)
  obtain ⟨_, eb8, hf⟩ := obd hf
  have hf := Prod.mk.inj (Option.some.inj hf)
  rw [hf.1]
  exact hret H locs 8 ls (hf.2 ▸ hI) (hf.1 ▸ (zb_e eb8).2) dX1_end_8

def X1_image (τ : Cs) : Option (Cs) :=
  (some (cou τ (mup (co τ) 0 3 (1 : Int32)))).bind fun t2 =>
  (clk t2 2 0).bind fun t13 =>
  some t13
set_option maxHeartbeats 4000000 in
theorem mX1_image (Λ : Nat → Nat → (Nat → Int32) → Int32) (Λn : Nat → Int32) (τ : Cs) (τ' : Cs) (hf : X1_image τ = some τ') : CMv yX1_image cX1_image 1 none 4 321 Λ Λn (fun o aK aF => [.ref o]) τ τ' := by
  refine CMv.of (by decide) (fun _ _ _ => Nat.le_of_ble_eq_true rfl) ?_
  intro p l e s m args below meth c D J o z aK aV G Ld aF Q ls hx hb hml hown hts hE hret hI hl
  obtain ⟨H, eH⟩ : ∃ H, H = s.heap := ⟨_, rfl⟩
  obtain ⟨locs, eL⟩ : ∃ L : List Loc, L = [] := ⟨_, rfl⟩
  rw [← eH, ← eL] at hI ⊢
  have hown : s.vm.findClass RX1 = some m.cls := hown
  have hl : lv_has ls 1 [(0, .ref o)] := hl
  unfold X1_image at hf
  refine lv_aload_n hx hb dX1_image_0 rfl (lv_at hl 0 rfl) ?_
  refine lv_iconst (v := (1 : Int32)) hx hb dX1_image_1 (by decide) ?_
  obtain ⟨t2, et2, hf⟩ := obd hf
  refine gput hx hb hts in_X1 tyX1 tyX1_ok nmX1 hown hE.1.1 (hI.1.o 0 rfl) rfl 3 (by decide) q468 rfl (zb_n (by decide)) (zb_f (by decide)) (Nat.le_of_ble_eq_true rfl) dX1_image_2 (fun H locs h1 h2 h3 h4 => ?_)
  have hI := hI.putO (σ' := cou τ (mup (co τ) 0 3 (1 : Int32))) (P := 0) rfl rfl ⟨rfl, rfl⟩ h1 h2 h3 h4
  rw [Option.some.inj et2] at hI
  refine lv_aload_n hx hb dX1_image_5 rfl (lv_at hl 0 rfl) ?_
  refine gget hx hb hts in_X1 hown hE.1.1 (hI.1.o 0 rfl) rfl 2 (by decide) q467 rfl dX1_image_6 ?_
  refine lv_aload_n hx hb dX1_image_9 rfl (lv_at hl 0 rfl) ?_
  refine gget hx hb hts in_X1 hown hE.1.1 (hI.1.o 0 rfl) rfl 0 (by decide) q463 rfl dX1_image_10 ?_
  obtain ⟨t13, et13, hf⟩ := obd hf
  refine clikens (rest := []) hx hb hts hown hE hI hml hl.1 (by decide) (by decide) (by decide) et13 ⟨Nat.le_of_ble_eq_true rfl, Nat.le_of_ble_eq_true rfl⟩ ⟨Nat.le_of_ble_eq_true rfl, Nat.le_of_ble_eq_true rfl⟩ (lv_room (Nat.le_of_ble_eq_true rfl)) dX1_image_13 (fun H locs hI => ?_)
  refine lv_pop hx hb dX1_image_16 rfl ?_
  exact hret H locs 17 ls ((Option.some.inj hf) ▸ hI) dX1_image_17
