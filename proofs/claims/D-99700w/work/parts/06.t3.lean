def X7_costsOfAll_L4 (c1 : Int32) (w4 : Mm × Int32 × Int32) : Option ((Mm × Int32 × Int32) ⊕ (Mm × Int32)) :=
  if (w4.1 0 5) ≤ w4.2.2 then
    some (.inr (w4.1, w4.2.1))
  else
    (X7_isOf c1 w4.2.2).bind fun x17 =>
    if x17 = (0 : Int32) then
      (some (w4.2.1 + (0 : Int32))).bind fun v33 =>
      (some (w4.2.2 + (1 : Int32))).bind fun v34 =>
      some (.inl (w4.1, v33, v34))
    else
      (X7_costsOf w4.1 w4.2.2).bind fun x25 =>
      (some (w4.2.1 + x25.1)).bind fun v33_5 =>
      (some (w4.2.2 + (1 : Int32))).bind fun v34_6 =>
      some (.inl (x25.2, v33_5, v34_6))
def X7_costsOfAll (τ : Mm) (a1 : Int32) : Option (Int32 × Mm) :=
  (loopO (X7_costsOfAll_L4 a1) FU (τ, (0 : Int32), (0 : Int32))).bind fun e4 =>
  some (e4.2, e4.1)
set_option maxHeartbeats 4000000 in
theorem mX7_costsOfAll (τ : Mm) (a1 : Int32) (r : Int32) (τ' : Mm) (hf : X7_costsOfAll τ a1 = some (r, τ')) : TMi yX7_costsOfAll cX7_costsOfAll 4 (some .int) 694 20091 (fun aK => [.int a1]) r τ τ' := by
  refine TMi.of (by decide) rfl (fun _ _ => Nat.le_of_ble_eq_true rfl) ?_
  intro p l e s m args below meth c D cI cZ o z aK aV Q ls hz hx hb hml hown hts hE hret hI hl
  obtain ⟨H, eH⟩ : ∃ H, H = s.heap := ⟨_, rfl⟩
  obtain ⟨locs, eL⟩ : ∃ L : List Loc, L = [] := ⟨_, rfl⟩
  rw [← eH, ← eL] at hI ⊢
  have hl : lv_has ls 4 [(0, .ref o), (1, .int a1)] := hl
  unfold X7_costsOfAll at hf
  refine lv_iconst (v := (0 : Int32)) hx hb dX7_costsOfAll_0 (by decide) ?_
  refine lv_istore_n (lv' := [(2, .int (0 : Int32)), (0, .ref o), (1, .int a1)]) hx hb dX7_costsOfAll_1 rfl hl (by decide) rfl (fun ls hl => ?_)
  refine lv_iconst (v := (0 : Int32)) hx hb dX7_costsOfAll_2 (by decide) ?_
  refine lv_istore_n (lv' := [(3, .int (0 : Int32)), (2, .int (0 : Int32)), (0, .ref o), (1, .int a1)]) hx hb dX7_costsOfAll_3 rfl hl (by decide) rfl (fun ls hl => ?_)
  obtain ⟨e4, he4, hf⟩ := obd hf
  have hs4 : ∀ (c1 : Int32), ∀ (w4 : Mm × Int32 × Int32) (o4 : (Mm × Int32 × Int32) ⊕ (Mm × Int32)), X7_costsOfAll_L4 c1 w4 = some o4 → (∀ wx_, o4 = .inl wx_ → ∀ (H : Heap) (locs : List Loc) (ls : Array Slot), IT D cI cZ o s H locs wx_.1 → lv_has ls 4 [(0, .ref o), (1, .int c1), (2, .int wx_.2.1), (3, .int wx_.2.2)] → W p l e ({ frames := 694, cells := 0, slots := 0, locals := 20091 } : Room) s m args below meth c H locs 0 0 Q (F0 m 4 ls [])) → (∀ ex_, o4 = .inr ex_ → ∀ (H : Heap) (locs : List Loc) (ls : Array Slot), IT D cI cZ o s H locs ex_.1 → lv_has ls 4 [(2, .int ex_.2)] → W p l e ({ frames := 694, cells := 0, slots := 0, locals := 20091 } : Room) s m args below meth c H locs 0 0 Q (F0 m 40 ls [])) → ∀ (H : Heap) (locs : List Loc) (ls : Array Slot), IT D cI cZ o s H locs w4.1 → lv_has ls 4 [(0, .ref o), (1, .int c1), (2, .int w4.2.1), (3, .int w4.2.2)] → W p l e ({ frames := 694, cells := 0, slots := 0, locals := 20091 } : Room) s m args below meth c H locs 0 0 Q (F0 m 4 ls []) := by
    intro c1 w4 o4 hf hk hq H locs ls hI hl
    unfold X7_costsOfAll_L4 at hf
    refine lv_iload_n hx hb dX7_costsOfAll_4 rfl (lv_at hl 3 rfl) ?_
    refine lv_aload_n hx hb dX7_costsOfAll_5 rfl (lv_at hl 0 rfl) ?_
    refine tget hx hb hts hown hE hI 1 (by decide) q2101 rfl dX7_costsOfAll_6 ?_
    refine lv_iconst (v := (5 : Int32)) hx hb dX7_costsOfAll_9 (by decide) ?_
    refine taldc hx hb hE hI 1 781 5 rfl (by decide) (by decide) dX7_costsOfAll_10 ?_
    refine lv_icmp_ge (tgt := 40) hx hb dX7_costsOfAll_11 (by decide) (fun hc => ?_) (fun hc => ?_)
    · replace hf := ipos hc hf
      exact hq _ (Option.some.inj hf).symm H locs ls hI (lv_sub hl [2] rfl)
    · replace hf := ineg hc hf
      refine lv_iload_n hx hb dX7_costsOfAll_14 rfl (lv_at hl 2 rfl) ?_
      refine lv_iload_n hx hb dX7_costsOfAll_15 rfl (lv_at hl 1 rfl) ?_
      refine lv_iload_n hx hb dX7_costsOfAll_16 rfl (lv_at hl 3 rfl) ?_
      obtain ⟨x17, ex17, hf⟩ := obd hf
      refine tcallS (rest := [.int w4.2.1]) hx hb hts hown hml hl.1 (mX7_isOf c1 w4.2.2 _ ex17) (cwX7_isOf hts ⟨Nat.le_of_ble_eq_true rfl, Nat.le_of_ble_eq_true rfl⟩) ⟨Nat.le_of_ble_eq_true rfl, Nat.le_of_ble_eq_true rfl⟩ rfl rfl (lv_room (Nat.le_of_ble_eq_true rfl)) dX7_costsOfAll_17 ?_
      refine lv_if_eq (tgt := 31) hx hb dX7_costsOfAll_20 (by decide) (fun hc => ?_) (fun hc => ?_)
      · replace hf := ipos hc hf
        refine lv_iconst (v := (0 : Int32)) hx hb dX7_costsOfAll_31 (by decide) ?_
        refine lv_iadd hx hb dX7_costsOfAll_32 ?_
        obtain ⟨v33, ev33, hf⟩ := obd hf
        refine nmI ev33 ?_
        refine lv_istore_n (lv' := [(2, .int v33), (0, .ref o), (1, .int c1), (3, .int w4.2.2)]) hx hb dX7_costsOfAll_33 rfl hl (by decide) rfl (fun ls hl => ?_)
        obtain ⟨v34, ev34, hf⟩ := obd hf
        refine lv_iinc (v := v34) (lv' := [(3, .int v34), (2, .int v33), (0, .ref o), (1, .int c1)]) hx hb dX7_costsOfAll_34 hl (k := 3) rfl (iiE ev34 (by decide)) (by decide) rfl (fun ls hl => ?_)
        refine lv_goto (tgt := 4) hx hb dX7_costsOfAll_37 (by decide) ?_
        exact hk _ (Option.some.inj hf).symm H locs ls hI (lv_sub hl [2, 3, 1, 0] rfl)
      · replace hf := ineg hc hf
        refine lv_aload_n hx hb dX7_costsOfAll_23 rfl (lv_at hl 0 rfl) ?_
        refine lv_iload_n hx hb dX7_costsOfAll_24 rfl (lv_at hl 3 rfl) ?_
        obtain ⟨x25, ex25, hf⟩ := obd hf
        refine tcallI (rest := [.int w4.2.1]) hx hb hts hown hE hz hI hml hl.1 (mX7_costsOf w4.1 w4.2.2 _ _ ex25) (cwX7_costsOf hts ⟨Nat.le_of_ble_eq_true rfl, Nat.le_of_ble_eq_true rfl⟩) ⟨Nat.le_of_ble_eq_true rfl, Nat.le_of_ble_eq_true rfl⟩ rfl rfl (lv_room (Nat.le_of_ble_eq_true rfl)) dX7_costsOfAll_25 (fun H locs hI => ?_)
        refine lv_goto (tgt := 32) hx hb dX7_costsOfAll_28 (by decide) ?_
        refine lv_iadd hx hb dX7_costsOfAll_32 ?_
        obtain ⟨v33_5, ev33_5, hf⟩ := obd hf
        refine nmI ev33_5 ?_
        refine lv_istore_n (lv' := [(2, .int v33_5), (0, .ref o), (1, .int c1), (3, .int w4.2.2)]) hx hb dX7_costsOfAll_33 rfl hl (by decide) rfl (fun ls hl => ?_)
        obtain ⟨v34_6, ev34_6, hf⟩ := obd hf
        refine lv_iinc (v := v34_6) (lv' := [(3, .int v34_6), (2, .int v33_5), (0, .ref o), (1, .int c1)]) hx hb dX7_costsOfAll_34 hl (k := 3) rfl (iiE ev34_6 (by decide)) (by decide) rfl (fun ls hl => ?_)
        refine lv_goto (tgt := 4) hx hb dX7_costsOfAll_37 (by decide) ?_
        exact hk _ (Option.some.inj hf).symm H locs ls hI (lv_sub hl [2, 3, 1, 0] rfl)
  refine loopO_W (Wat := fun w4 => ∀ (H : Heap) (locs : List Loc) (ls : Array Slot), IT D cI cZ o s H locs w4.1 → lv_has ls 4 [(0, .ref o), (1, .int a1), (2, .int w4.2.1), (3, .int w4.2.2)] → W p l e ({ frames := 694, cells := 0, slots := 0, locals := 20091 } : Room) s m args below meth c H locs 0 0 Q (F0 m 4 ls [])) (Wex := fun ex_ => ∀ (H : Heap) (locs : List Loc) (ls : Array Slot), IT D cI cZ o s H locs ex_.1 → lv_has ls 4 [(2, .int ex_.2)] → W p l e ({ frames := 694, cells := 0, slots := 0, locals := 20091 } : Room) s m args below meth c H locs 0 0 Q (F0 m 40 ls [])) (hs4 a1) FU _ e4 he4 ?_ H locs ls hI (lv_sub hl [2, 3, 1, 0] rfl)
  · skip
    intro H locs ls hI hl
    refine lv_iload_n hx hb dX7_costsOfAll_40 rfl (lv_at hl 0 rfl) ?_
    have hf := Prod.mk.inj (Option.some.inj hf)
    rw [hf.1]
    exact hret H locs 41 ls (hf.2 ▸ hI) dX7_costsOfAll_41
theorem cwX7_costsOfAll {R : Room} {s : State} {args : Array Value} {fr lo : Nat} (hts : ∀ w ∈ lw_all, w.before args s = true) (hR : fr + 1 ≤ R.frames ∧ 8 + (4 + 11) + lo ≤ R.locals) : CallW R s args RX7 RX7 356 yX7_costsOfAll cX7_costsOfAll 4 (some .int) (ws_ yX7_costsOfAll cX7_costsOfAll 4 (some .int)) ({ frames := fr, cells := 0, slots := 0, locals := lo }) 0 0 1 :=
  cwV 1 hts (lw_V q2576 q2578 qs119 q143 q2579) rfl rfl rfl (by decide +kernel) hR

def X7_worth_L55 (c1 : Int32) (c2 : Int32) (c3 : Int32) (w55 : Mm × Int32 × Int32 × Int32) : Option ((Mm × Int32 × Int32 × Int32) ⊕ (Mm × Int32 × Int32)) :=
  if (256 : Int32) ≤ w55.2.2.2 then
    some (.inr (w55.1, w55.2.1, w55.2.2.1))
  else
    (X7_inState w55.1 (0 : Int32)).bind fun x67 =>
    if (w55.2.2.2 &&& (x67 ^^^ (-1 : Int32))) = (0 : Int32) then
      (X7_costsOfAll w55.1 w55.2.2.2).bind fun x79 =>
      if x79.1 ≤ c2 then
        (X7_netOf x79.2 c1 w55.2.2.2).bind fun x93 =>
        (X7_costsOfAll x79.2 w55.2.2.2).bind fun x99 =>
        (some (x93 - x99.1)).bind fun v103 =>
        if w55.2.2.1 < v103 then
          (some (w55.2.2.2 + (1 : Int32))).bind fun v123_9 =>
          some (.inl (x99.2, w55.2.2.2, v103, v123_9))
        else
          (some (w55.2.2.2 + (1 : Int32))).bind fun v123_10 =>
          some (.inl (x99.2, w55.2.1, w55.2.2.1, v123_10))
      else
        (some (w55.2.2.2 + (1 : Int32))).bind fun v123_11 =>
        some (.inl (x79.2, w55.2.1, w55.2.2.1, v123_11))
    else
      (some (w55.2.2.2 + (1 : Int32))).bind fun v123 =>
      some (.inl (w55.1, w55.2.1, w55.2.2.1, v123))
def X7_worth_J29 (τ : Mm) (a1 : Int32) (a2 : Int32) (a3 : Int32) (y0 : Int32) : Option (Int32 × Mm) :=
  (some (mup τ 10 0 y0)).bind fun t29 =>
  if (t29 10 0) ≤ (0 : Int32) then
    (X7_netOf t29 a1 (0 : Int32)).bind fun x47 =>
    (loopO (X7_worth_L55 a1 a2 a3) FU (t29, (0 : Int32), x47, (1 : Int32))).bind fun e55 =>
    if a3 = (0 : Int32) then
      some (e55.2.1, e55.1)
    else
      some (e55.2.2, e55.1)
  else
    some ((0 : Int32), t29)
def X7_worth (τ : Mm) (a1 : Int32) (a2 : Int32) (a3 : Int32) : Option (Int32 × Mm) :=
  (X7_isParty τ a1).bind fun x3 =>
  if x3 = (0 : Int32) then
    X7_worth_J29 τ a1 a2 a3 (1 : Int32)
  else
    (X7_isIn a2 (0 : Int32) (999 : Int32)).bind fun x18 =>
    if x18 = (0 : Int32) then
      X7_worth_J29 τ a1 a2 a3 (2 : Int32)
    else
      X7_worth_J29 τ a1 a2 a3 (0 : Int32)
set_option maxHeartbeats 4000000 in
theorem mX7_worth (τ : Mm) (a1 : Int32) (a2 : Int32) (a3 : Int32) (r : Int32) (τ' : Mm) (hf : X7_worth τ a1 a2 a3 = some (r, τ')) : TMi yX7_worth cX7_worth 8 (some .int) 695 20114 (fun aK => [.int a1, .int a2, .int a3]) r τ τ' := by
  refine TMi.of (by decide) rfl (fun _ _ => Nat.le_of_ble_eq_true rfl) ?_
  intro p l e s m args below meth c D cI cZ o z aK aV Q ls hz hx hb hml hown hts hE hret hI hl
  obtain ⟨H, eH⟩ : ∃ H, H = s.heap := ⟨_, rfl⟩
  obtain ⟨locs, eL⟩ : ∃ L : List Loc, L = [] := ⟨_, rfl⟩
  rw [← eH, ← eL] at hI ⊢
  have hl : lv_has ls 8 [(0, .ref o), (1, .int a1), (2, .int a2), (3, .int a3)] := hl
  unfold X7_worth at hf
  have hJ29 : ∀ (τ : Mm) (y0 : Int32) (H : Heap) (locs : List Loc) (ls : Array Slot), X7_worth_J29 τ a1 a2 a3 y0 = some (r, τ') → IT D cI cZ o s H locs τ → lv_has ls 8 [(0, .ref o), (1, .int a1), (2, .int a2), (3, .int a3)] → W p l e ({ frames := 695, cells := 0, slots := 0, locals := 20114 } : Room) s m args below meth c H locs 0 0 Q (F0 m 29 ls [.int y0, .ref o]) := by
    intro τ y0 H locs ls hf hI hl
    unfold X7_worth_J29 at hf
    obtain ⟨t29, et29, hf⟩ := obd hf
    refine tput hx hb hts hown hE hI 0 (by decide) q2100 rfl (tyX7_ok 0 (by decide)) rfl rfl rfl et29 dX7_worth_29 (fun H locs hI => ?_)
    refine lv_aload_n hx hb dX7_worth_32 rfl (lv_at hl 0 rfl) ?_
    refine tget hx hb hts hown hE hI 0 (by decide) q2100 rfl dX7_worth_33 ?_
    refine lv_if_le (tgt := 41) hx hb dX7_worth_36 (by decide) (fun hc => ?_) (fun hc => ?_)
    · replace hf := ipos hc hf
      refine lv_iconst (v := (0 : Int32)) hx hb dX7_worth_41 (by decide) ?_
      refine lv_istore (lv' := [(4, .int (0 : Int32)), (0, .ref o), (1, .int a1), (2, .int a2), (3, .int a3)]) hx hb dX7_worth_42 hl (by decide) rfl (fun ls hl => ?_)
      refine lv_aload_n hx hb dX7_worth_44 rfl (lv_at hl 1 rfl) ?_
      refine lv_iload_n hx hb dX7_worth_45 rfl (lv_at hl 2 rfl) ?_
      refine lv_iconst (v := (0 : Int32)) hx hb dX7_worth_46 (by decide) ?_
      obtain ⟨x47, ex47, hf⟩ := obd hf
      refine tcallI (rest := []) hx hb hts hown hE hz hI hml hl.1 (mX7_netOf t29 a1 (0 : Int32) _ ex47) (cwX7_netOf hts ⟨Nat.le_of_ble_eq_true rfl, Nat.le_of_ble_eq_true rfl⟩) ⟨Nat.le_of_ble_eq_true rfl, Nat.le_of_ble_eq_true rfl⟩ rfl rfl (lv_room (Nat.le_of_ble_eq_true rfl)) dX7_worth_47 (fun H locs hI => ?_)
      refine lv_istore (lv' := [(5, .int x47), (4, .int (0 : Int32)), (0, .ref o), (1, .int a1), (2, .int a2), (3, .int a3)]) hx hb dX7_worth_50 hl (by decide) rfl (fun ls hl => ?_)
      refine lv_iconst (v := (1 : Int32)) hx hb dX7_worth_52 (by decide) ?_
      refine lv_istore (lv' := [(6, .int (1 : Int32)), (5, .int x47), (4, .int (0 : Int32)), (0, .ref o), (1, .int a1), (2, .int a2), (3, .int a3)]) hx hb dX7_worth_53 hl (by decide) rfl (fun ls hl => ?_)
      obtain ⟨e55, he55, hf⟩ := obd hf
      have hs55 : ∀ (c1 : Int32) (c2 : Int32) (c3 : Int32), ∀ (w55 : Mm × Int32 × Int32 × Int32) (o55 : (Mm × Int32 × Int32 × Int32) ⊕ (Mm × Int32 × Int32)), X7_worth_L55 c1 c2 c3 w55 = some o55 → (∀ wx_, o55 = .inl wx_ → ∀ (H : Heap) (locs : List Loc) (ls : Array Slot), IT D cI cZ o s H locs wx_.1 → lv_has ls 8 [(0, .ref o), (1, .int c1), (2, .int c2), (3, .int c3), (4, .int wx_.2.1), (5, .int wx_.2.2.1), (6, .int wx_.2.2.2)] → W p l e ({ frames := 695, cells := 0, slots := 0, locals := 20114 } : Room) s m args below meth c H locs 0 0 Q (F0 m 55 ls [])) → (∀ ex_, o55 = .inr ex_ → ∀ (H : Heap) (locs : List Loc) (ls : Array Slot), IT D cI cZ o s H locs ex_.1 → lv_has ls 8 [(3, .int c3), (4, .int ex_.2.1), (5, .int ex_.2.2)] → W p l e ({ frames := 695, cells := 0, slots := 0, locals := 20114 } : Room) s m args below meth c H locs 0 0 Q (F0 m 129 ls [])) → ∀ (H : Heap) (locs : List Loc) (ls : Array Slot), IT D cI cZ o s H locs w55.1 → lv_has ls 8 [(0, .ref o), (1, .int c1), (2, .int c2), (3, .int c3), (4, .int w55.2.1), (5, .int w55.2.2.1), (6, .int w55.2.2.2)] → W p l e ({ frames := 695, cells := 0, slots := 0, locals := 20114 } : Room) s m args below meth c H locs 0 0 Q (F0 m 55 ls []) := by
        intro c1 c2 c3 w55 o55 hf hk hq H locs ls hI hl
        unfold X7_worth_L55 at hf
        refine lv_iload hx hb dX7_worth_55 (lv_at hl 6 rfl) ?_
        refine lv_sipush (v := (256 : Int32)) hx hb dX7_worth_57 (by decide) ?_
        refine lv_icmp_ge (tgt := 129) hx hb dX7_worth_60 (by decide) (fun hc => ?_) (fun hc => ?_)
        · replace hf := ipos hc hf
          exact hq _ (Option.some.inj hf).symm H locs ls hI (lv_sub hl [3, 4, 5] rfl)
        · replace hf := ineg hc hf
          refine lv_iload hx hb dX7_worth_63 (lv_at hl 6 rfl) ?_
          refine lv_aload_n hx hb dX7_worth_65 rfl (lv_at hl 0 rfl) ?_
          refine lv_iconst (v := (0 : Int32)) hx hb dX7_worth_66 (by decide) ?_
          obtain ⟨x67, ex67, hf⟩ := obd hf
          refine tcallI (rest := [.int w55.2.2.2]) hx hb hts hown hE hz hI hml hl.1 (mX7_inState w55.1 (0 : Int32) _ ex67) (cwX7_inState hts ⟨Nat.le_of_ble_eq_true rfl, Nat.le_of_ble_eq_true rfl⟩) ⟨Nat.le_of_ble_eq_true rfl, Nat.le_of_ble_eq_true rfl⟩ rfl rfl (lv_room (Nat.le_of_ble_eq_true rfl)) dX7_worth_67 (fun H locs hI => ?_)
          refine lv_iconst (v := (-1 : Int32)) hx hb dX7_worth_70 (by decide) ?_
          refine lv_ixor hx hb dX7_worth_71 ?_
          refine lv_iand hx hb dX7_worth_72 ?_
          refine lv_if_ne (tgt := 123) hx hb dX7_worth_73 (by decide) (fun hc => ?_) (fun hc => ?_)
          · replace hf := ineg hc hf
            obtain ⟨v123, ev123, hf⟩ := obd hf
            refine lv_iinc (v := v123) (lv' := [(6, .int v123), (0, .ref o), (1, .int c1), (2, .int c2), (3, .int c3), (4, .int w55.2.1), (5, .int w55.2.2.1)]) hx hb dX7_worth_123 hl (k := 6) rfl (iiE ev123 (by decide)) (by decide) rfl (fun ls hl => ?_)
            refine lv_goto (tgt := 55) hx hb dX7_worth_126 (by decide) ?_
            exact hk _ (Option.some.inj hf).symm H locs ls hI (lv_sub hl [1, 2, 3, 4, 5, 6, 0] rfl)
          · replace hf := ipos hc hf
            refine lv_aload_n hx hb dX7_worth_76 rfl (lv_at hl 0 rfl) ?_
            refine lv_iload hx hb dX7_worth_77 (lv_at hl 6 rfl) ?_
            obtain ⟨x79, ex79, hf⟩ := obd hf
            refine tcallI (rest := []) hx hb hts hown hE hz hI hml hl.1 (mX7_costsOfAll w55.1 w55.2.2.2 _ _ ex79) (cwX7_costsOfAll hts ⟨Nat.le_of_ble_eq_true rfl, Nat.le_of_ble_eq_true rfl⟩) ⟨Nat.le_of_ble_eq_true rfl, Nat.le_of_ble_eq_true rfl⟩ rfl rfl (lv_room (Nat.le_of_ble_eq_true rfl)) dX7_worth_79 (fun H locs hI => ?_)
            refine lv_iload_n hx hb dX7_worth_82 rfl (lv_at hl 2 rfl) ?_
            refine lv_icmp_le (tgt := 89) hx hb dX7_worth_83 (by decide) (fun hc => ?_) (fun hc => ?_)
            · replace hf := ipos hc hf
              refine lv_aload_n hx hb dX7_worth_89 rfl (lv_at hl 0 rfl) ?_
              refine lv_iload_n hx hb dX7_worth_90 rfl (lv_at hl 1 rfl) ?_
              refine lv_iload hx hb dX7_worth_91 (lv_at hl 6 rfl) ?_
              obtain ⟨x93, ex93, hf⟩ := obd hf
              refine tcallI (rest := []) hx hb hts hown hE hz hI hml hl.1 (mX7_netOf x79.2 c1 w55.2.2.2 _ ex93) (cwX7_netOf hts ⟨Nat.le_of_ble_eq_true rfl, Nat.le_of_ble_eq_true rfl⟩) ⟨Nat.le_of_ble_eq_true rfl, Nat.le_of_ble_eq_true rfl⟩ rfl rfl (lv_room (Nat.le_of_ble_eq_true rfl)) dX7_worth_93 (fun H locs hI => ?_)
              refine lv_aload_n hx hb dX7_worth_96 rfl (lv_at hl 0 rfl) ?_
              refine lv_iload hx hb dX7_worth_97 (lv_at hl 6 rfl) ?_
              obtain ⟨x99, ex99, hf⟩ := obd hf
              refine tcallI (rest := [.int x93]) hx hb hts hown hE hz hI hml hl.1 (mX7_costsOfAll x79.2 w55.2.2.2 _ _ ex99) (cwX7_costsOfAll hts ⟨Nat.le_of_ble_eq_true rfl, Nat.le_of_ble_eq_true rfl⟩) ⟨Nat.le_of_ble_eq_true rfl, Nat.le_of_ble_eq_true rfl⟩ rfl rfl (lv_room (Nat.le_of_ble_eq_true rfl)) dX7_worth_99 (fun H locs hI => ?_)
              refine lv_isub hx hb dX7_worth_102 ?_
              obtain ⟨v103, ev103, hf⟩ := obd hf
              refine nmI ev103 ?_
              refine lv_istore (lv' := [(7, .int v103), (0, .ref o), (1, .int c1), (2, .int c2), (3, .int c3), (4, .int w55.2.1), (5, .int w55.2.2.1), (6, .int w55.2.2.2)]) hx hb dX7_worth_103 hl (by decide) rfl (fun ls hl => ?_)
              refine lv_iload hx hb dX7_worth_105 (lv_at hl 0 rfl) ?_
              refine lv_iload hx hb dX7_worth_107 (lv_at hl 6 rfl) ?_
              refine lv_icmp_gt (tgt := 115) hx hb dX7_worth_109 (by decide) (fun hc => ?_) (fun hc => ?_)
              · replace hf := ipos hc hf
                refine lv_iload hx hb dX7_worth_115 (lv_at hl 0 rfl) ?_
                refine lv_istore (lv' := [(5, .int v103), (7, .int v103), (0, .ref o), (1, .int c1), (2, .int c2), (3, .int c3), (4, .int w55.2.1), (6, .int w55.2.2.2)]) hx hb dX7_worth_117 hl (by decide) rfl (fun ls hl => ?_)
                refine lv_iload hx hb dX7_worth_119 (lv_at hl 7 rfl) ?_
                refine lv_istore (lv' := [(4, .int w55.2.2.2), (5, .int v103), (7, .int v103), (0, .ref o), (1, .int c1), (2, .int c2), (3, .int c3), (6, .int w55.2.2.2)]) hx hb dX7_worth_121 hl (by decide) rfl (fun ls hl => ?_)
                obtain ⟨v123_9, ev123_9, hf⟩ := obd hf
                refine lv_iinc (v := v123_9) (lv' := [(6, .int v123_9), (4, .int w55.2.2.2), (5, .int v103), (7, .int v103), (0, .ref o), (1, .int c1), (2, .int c2), (3, .int c3)]) hx hb dX7_worth_123 hl (k := 7) rfl (iiE ev123_9 (by decide)) (by decide) rfl (fun ls hl => ?_)
                refine lv_goto (tgt := 55) hx hb dX7_worth_126 (by decide) ?_
                exact hk _ (Option.some.inj hf).symm H locs ls hI (lv_sub hl [4, 5, 6, 7, 1, 2, 0] rfl)
              · replace hf := ineg hc hf
                refine lv_goto (tgt := 123) hx hb dX7_worth_112 (by decide) ?_
                obtain ⟨v123_10, ev123_10, hf⟩ := obd hf
                refine lv_iinc (v := v123_10) (lv' := [(6, .int v123_10), (7, .int v103), (0, .ref o), (1, .int c1), (2, .int c2), (3, .int c3), (4, .int w55.2.1), (5, .int w55.2.2.1)]) hx hb dX7_worth_123 hl (k := 7) rfl (iiE ev123_10 (by decide)) (by decide) rfl (fun ls hl => ?_)
                refine lv_goto (tgt := 55) hx hb dX7_worth_126 (by decide) ?_
                exact hk _ (Option.some.inj hf).symm H locs ls hI (lv_sub hl [2, 3, 4, 5, 6, 7, 0] rfl)
            · replace hf := ineg hc hf
              refine lv_goto (tgt := 123) hx hb dX7_worth_86 (by decide) ?_
              obtain ⟨v123_11, ev123_11, hf⟩ := obd hf
              refine lv_iinc (v := v123_11) (lv' := [(6, .int v123_11), (0, .ref o), (1, .int c1), (2, .int c2), (3, .int c3), (4, .int w55.2.1), (5, .int w55.2.2.1)]) hx hb dX7_worth_123 hl (k := 6) rfl (iiE ev123_11 (by decide)) (by decide) rfl (fun ls hl => ?_)
              refine lv_goto (tgt := 55) hx hb dX7_worth_126 (by decide) ?_
              exact hk _ (Option.some.inj hf).symm H locs ls hI (lv_sub hl [1, 2, 3, 4, 5, 6, 0] rfl)
      refine loopO_W (Wat := fun w55 => ∀ (H : Heap) (locs : List Loc) (ls : Array Slot), IT D cI cZ o s H locs w55.1 → lv_has ls 8 [(0, .ref o), (1, .int a1), (2, .int a2), (3, .int a3), (4, .int w55.2.1), (5, .int w55.2.2.1), (6, .int w55.2.2.2)] → W p l e ({ frames := 695, cells := 0, slots := 0, locals := 20114 } : Room) s m args below meth c H locs 0 0 Q (F0 m 55 ls [])) (Wex := fun ex_ => ∀ (H : Heap) (locs : List Loc) (ls : Array Slot), IT D cI cZ o s H locs ex_.1 → lv_has ls 8 [(3, .int a3), (4, .int ex_.2.1), (5, .int ex_.2.2)] → W p l e ({ frames := 695, cells := 0, slots := 0, locals := 20114 } : Room) s m args below meth c H locs 0 0 Q (F0 m 129 ls [])) (hs55 a1 a2 a3) FU _ e55 he55 ?_ H locs ls hI (lv_sub hl [3, 4, 5, 6, 2, 1, 0] rfl)
      · skip
        intro H locs ls hI hl
        refine lv_iload_n hx hb dX7_worth_129 rfl (lv_at hl 0 rfl) ?_
        refine lv_if_eq (tgt := 138) hx hb dX7_worth_130 (by decide) (fun hc => ?_) (fun hc => ?_)
        · replace hf := ipos hc hf
          refine lv_iload hx hb dX7_worth_138 (lv_at hl 1 rfl) ?_
          have hf := Prod.mk.inj (Option.some.inj hf)
          rw [hf.1]
          exact hret H locs 140 ls (hf.2 ▸ hI) dX7_worth_140
        · replace hf := ineg hc hf
          refine lv_iload hx hb dX7_worth_133 (lv_at hl 2 rfl) ?_
          refine lv_goto (tgt := 140) hx hb dX7_worth_135 (by decide) ?_
          have hf := Prod.mk.inj (Option.some.inj hf)
          rw [hf.1]
          exact hret H locs 140 ls (hf.2 ▸ hI) dX7_worth_140
    · replace hf := ineg hc hf
      refine lv_iconst (v := (0 : Int32)) hx hb dX7_worth_39 (by decide) ?_
      have hf := Prod.mk.inj (Option.some.inj hf)
      rw [hf.1]
      exact hret H locs 40 ls (hf.2 ▸ hI) dX7_worth_40
  refine lv_aload_n hx hb dX7_worth_0 rfl (lv_at hl 0 rfl) ?_
  refine lv_aload_n hx hb dX7_worth_1 rfl (lv_at hl 0 rfl) ?_
  refine lv_iload_n hx hb dX7_worth_2 rfl (lv_at hl 1 rfl) ?_
  obtain ⟨x3, ex3, hf⟩ := obd hf
  refine tcallI (rest := [.ref o]) hx hb hts hown hE hz hI hml hl.1 (mX7_isParty τ a1 _ ex3) (cwX7_isParty hts ⟨Nat.le_of_ble_eq_true rfl, Nat.le_of_ble_eq_true rfl⟩) ⟨Nat.le_of_ble_eq_true rfl, Nat.le_of_ble_eq_true rfl⟩ rfl rfl (lv_room (Nat.le_of_ble_eq_true rfl)) dX7_worth_3 (fun H locs hI => ?_)
  refine lv_if_ne (tgt := 13) hx hb dX7_worth_6 (by decide) (fun hc => ?_) (fun hc => ?_)
  · replace hf := ineg hc hf
    refine lv_iload_n hx hb dX7_worth_13 rfl (lv_at hl 2 rfl) ?_
    refine lv_iconst (v := (0 : Int32)) hx hb dX7_worth_14 (by decide) ?_
    refine lv_sipush (v := (999 : Int32)) hx hb dX7_worth_15 (by decide) ?_
    obtain ⟨x18, ex18, hf⟩ := obd hf
    refine tcallS (rest := [.ref o]) hx hb hts hown hml hl.1 (mX7_isIn a2 (0 : Int32) (999 : Int32) _ ex18) (cwX7_isIn hts ⟨Nat.le_of_ble_eq_true rfl, Nat.le_of_ble_eq_true rfl⟩) ⟨Nat.le_of_ble_eq_true rfl, Nat.le_of_ble_eq_true rfl⟩ rfl rfl (lv_room (Nat.le_of_ble_eq_true rfl)) dX7_worth_18 ?_
    refine lv_if_ne (tgt := 28) hx hb dX7_worth_21 (by decide) (fun hc => ?_) (fun hc => ?_)
    · replace hf := ineg hc hf
      refine lv_iconst (v := (0 : Int32)) hx hb dX7_worth_28 (by decide) ?_
      exact hJ29 τ (0 : Int32) H locs ls hf hI  (lv_sub hl [0, 1, 2, 3] rfl)
    · replace hf := ipos hc hf
      refine lv_iconst (v := (2 : Int32)) hx hb dX7_worth_24 (by decide) ?_
      refine lv_goto (tgt := 29) hx hb dX7_worth_25 (by decide) ?_
      exact hJ29 τ (2 : Int32) H locs ls hf hI  (lv_sub hl [0, 1, 2, 3] rfl)
  · replace hf := ipos hc hf
    refine lv_iconst (v := (1 : Int32)) hx hb dX7_worth_9 (by decide) ?_
    refine lv_goto (tgt := 29) hx hb dX7_worth_10 (by decide) ?_
    exact hJ29 τ (1 : Int32) H locs ls hf hI  (lv_sub hl [0, 1, 2, 3] rfl)


def X7_upOf_L5 (τ : Mm) (c1 : Int32) (w5 : Int32 × Int32) : Option ((Int32 × Int32) ⊕ (Int32)) :=
  (X7_ofInk τ c1 (0 : Int32)).bind fun x9 =>
  if x9 ≤ w5.1 then
    some (.inr w5.2)
  else
    (X7_soaked τ c1 (w5.2 - w5.2 / (4 : Int32) * (4 : Int32))).bind fun x23 =>
    (some (w5.1 + ((1 : Int32) + x23))).bind fun v28 =>
    (some (w5.2 + (1 : Int32))).bind fun v29 =>
    some (.inl (v28, v29))
def X7_upOf (τ : Mm) (a1 : Int32) (a2 : Int32) : Option (Int32) :=
  (loopO (X7_upOf_L5 τ a1) FU ((0 : Int32), a2)).bind fun e5 =>
  some e5
set_option maxHeartbeats 4000000 in
theorem mX7_upOf (τ : Mm) (a1 : Int32) (a2 : Int32) (r : Int32) (hf : X7_upOf τ a1 a2 = some r) : TMi yX7_upOf cX7_upOf 5 (some .int) 3 84 (fun aK => [.int a1, .int a2]) r τ τ := by
  refine TMi.of (by decide) rfl (fun _ _ => Nat.le_of_ble_eq_true rfl) ?_
  intro p l e s m args below meth c D cI cZ o z aK aV Q ls hz hx hb hml hown hts hE hret hI hl
  obtain ⟨H, eH⟩ : ∃ H, H = s.heap := ⟨_, rfl⟩
  obtain ⟨locs, eL⟩ : ∃ L : List Loc, L = [] := ⟨_, rfl⟩
  rw [← eH, ← eL] at hI ⊢
  have hl : lv_has ls 5 [(0, .ref o), (1, .int a1), (2, .int a2)] := hl
  unfold X7_upOf at hf
  refine lv_iconst (v := (0 : Int32)) hx hb dX7_upOf_0 (by decide) ?_
  refine lv_istore_n (lv' := [(3, .int (0 : Int32)), (0, .ref o), (1, .int a1), (2, .int a2)]) hx hb dX7_upOf_1 rfl hl (by decide) rfl (fun ls hl => ?_)
  refine lv_iload_n hx hb dX7_upOf_2 rfl (lv_at hl 3 rfl) ?_
  refine lv_istore (lv' := [(4, .int a2), (3, .int (0 : Int32)), (0, .ref o), (1, .int a1), (2, .int a2)]) hx hb dX7_upOf_3 hl (by decide) rfl (fun ls hl => ?_)
  obtain ⟨e5, he5, hf⟩ := obd hf
  have hs5 : ∀ (c1 : Int32), ∀ (w5 : Int32 × Int32) (o5 : (Int32 × Int32) ⊕ (Int32)), X7_upOf_L5 τ c1 w5 = some o5 → (∀ wx_, o5 = .inl wx_ → ∀ (H : Heap) (locs : List Loc) (ls : Array Slot), IT D cI cZ o s H locs τ → lv_has ls 5 [(0, .ref o), (1, .int c1), (3, .int wx_.1), (4, .int wx_.2)] → W p l e ({ frames := 3, cells := 0, slots := 0, locals := 84 } : Room) s m args below meth c H locs 0 0 Q (F0 m 5 ls [])) → (∀ ex_, o5 = .inr ex_ → ∀ (H : Heap) (locs : List Loc) (ls : Array Slot), IT D cI cZ o s H locs τ → lv_has ls 5 [(4, .int ex_)] → W p l e ({ frames := 3, cells := 0, slots := 0, locals := 84 } : Room) s m args below meth c H locs 0 0 Q (F0 m 35 ls [])) → ∀ (H : Heap) (locs : List Loc) (ls : Array Slot), IT D cI cZ o s H locs τ → lv_has ls 5 [(0, .ref o), (1, .int c1), (3, .int w5.1), (4, .int w5.2)] → W p l e ({ frames := 3, cells := 0, slots := 0, locals := 84 } : Room) s m args below meth c H locs 0 0 Q (F0 m 5 ls []) := by
    intro c1 w5 o5 hf hk hq H locs ls hI hl
    unfold X7_upOf_L5 at hf
    refine lv_iload_n hx hb dX7_upOf_5 rfl (lv_at hl 2 rfl) ?_
    refine lv_aload_n hx hb dX7_upOf_6 rfl (lv_at hl 0 rfl) ?_
    refine lv_iload_n hx hb dX7_upOf_7 rfl (lv_at hl 1 rfl) ?_
    refine lv_iconst (v := (0 : Int32)) hx hb dX7_upOf_8 (by decide) ?_
    obtain ⟨x9, ex9, hf⟩ := obd hf
    refine tcallI (rest := [.int w5.1]) hx hb hts hown hE hz hI hml hl.1 (mX7_ofInk τ c1 (0 : Int32) _ ex9) (cwX7_ofInk hts ⟨Nat.le_of_ble_eq_true rfl, Nat.le_of_ble_eq_true rfl⟩) ⟨Nat.le_of_ble_eq_true rfl, Nat.le_of_ble_eq_true rfl⟩ rfl rfl (lv_room (Nat.le_of_ble_eq_true rfl)) dX7_upOf_9 (fun H locs hI => ?_)
    refine lv_icmp_ge (tgt := 35) hx hb dX7_upOf_12 (by decide) (fun hc => ?_) (fun hc => ?_)
    · replace hf := ipos hc hf
      exact hq _ (Option.some.inj hf).symm H locs ls hI (lv_sub hl [3] rfl)
    · replace hf := ineg hc hf
      refine lv_iload_n hx hb dX7_upOf_15 rfl (lv_at hl 2 rfl) ?_
      refine lv_iconst (v := (1 : Int32)) hx hb dX7_upOf_16 (by decide) ?_
      refine lv_aload_n hx hb dX7_upOf_17 rfl (lv_at hl 0 rfl) ?_
      refine lv_iload_n hx hb dX7_upOf_18 rfl (lv_at hl 1 rfl) ?_
      refine lv_iload hx hb dX7_upOf_19 (lv_at hl 3 rfl) ?_
      refine lv_iconst (v := (4 : Int32)) hx hb dX7_upOf_21 (by decide) ?_
      refine lv_irem hx hb dX7_upOf_22 (by decide) ?_
      obtain ⟨x23, ex23, hf⟩ := obd hf
      refine tcallI (rest := [.int (1 : Int32), .int w5.1]) hx hb hts hown hE hz hI hml hl.1 (mX7_soaked τ c1 (w5.2 - w5.2 / (4 : Int32) * (4 : Int32)) _ ex23) (cwX7_soaked hts ⟨Nat.le_of_ble_eq_true rfl, Nat.le_of_ble_eq_true rfl⟩) ⟨Nat.le_of_ble_eq_true rfl, Nat.le_of_ble_eq_true rfl⟩ rfl rfl (lv_room (Nat.le_of_ble_eq_true rfl)) dX7_upOf_23 (fun H locs hI => ?_)
      refine lv_iadd hx hb dX7_upOf_26 ?_
      refine lv_iadd hx hb dX7_upOf_27 ?_
      obtain ⟨v28, ev28, hf⟩ := obd hf
      refine nmI ev28 ?_
      refine lv_istore_n (lv' := [(3, .int v28), (0, .ref o), (1, .int c1), (4, .int w5.2)]) hx hb dX7_upOf_28 rfl hl (by decide) rfl (fun ls hl => ?_)
      obtain ⟨v29, ev29, hf⟩ := obd hf
      refine lv_iinc (v := v29) (lv' := [(4, .int v29), (3, .int v28), (0, .ref o), (1, .int c1)]) hx hb dX7_upOf_29 hl (k := 3) rfl (iiE ev29 (by decide)) (by decide) rfl (fun ls hl => ?_)
      refine lv_goto (tgt := 5) hx hb dX7_upOf_32 (by decide) ?_
      exact hk _ (Option.some.inj hf).symm H locs ls hI (lv_sub hl [2, 3, 1, 0] rfl)
  refine loopO_W (Wat := fun w5 => ∀ (H : Heap) (locs : List Loc) (ls : Array Slot), IT D cI cZ o s H locs τ → lv_has ls 5 [(0, .ref o), (1, .int a1), (3, .int w5.1), (4, .int w5.2)] → W p l e ({ frames := 3, cells := 0, slots := 0, locals := 84 } : Room) s m args below meth c H locs 0 0 Q (F0 m 5 ls [])) (Wex := fun ex_ => ∀ (H : Heap) (locs : List Loc) (ls : Array Slot), IT D cI cZ o s H locs τ → lv_has ls 5 [(4, .int ex_)] → W p l e ({ frames := 3, cells := 0, slots := 0, locals := 84 } : Room) s m args below meth c H locs 0 0 Q (F0 m 35 ls [])) (hs5 a1) FU _ e5 he5 ?_ H locs ls hI (lv_sub hl [2, 3, 1, 0] rfl)
  · skip
    intro H locs ls hI hl
    refine lv_iload hx hb dX7_upOf_35 (lv_at hl 0 rfl) ?_
    have hf := Option.some.inj hf
    rw [hf]
    exact hret H locs 37 ls hI dX7_upOf_37
theorem cwX7_upOf {R : Room} {s : State} {args : Array Value} {fr lo : Nat} (hts : ∀ w ∈ lw_all, w.before args s = true) (hR : fr + 1 ≤ R.frames ∧ 8 + (5 + 11) + lo ≤ R.locals) : CallW R s args RX7 RX7 359 yX7_upOf cX7_upOf 5 (some .int) (ws_ yX7_upOf cX7_upOf 5 (some .int)) ({ frames := fr, cells := 0, slots := 0, locals := lo }) 0 0 2 :=
  cwV 2 hts (lw_V q2588 q2590 qs121 q143 q2591) rfl rfl rfl (by decide +kernel) hR

def X7_isRead (τ : Mm) (a1 : Int32) (a2 : Int32) : Option (Int32) :=
  (X7_ofInk τ (a1 / (21 : Int32)) (1 : Int32)).bind fun x6 =>
  (ld 126 (τ 7) a1).bind fun x16 =>
  if a2 < x16 then
    some (0 : Int32)
  else
    if x6 = (0 : Int32) then
      some (1 : Int32)
    else
      (ld 126 (τ 7) a1).bind fun x30 =>
      if (x30 + x6) ≤ a2 then
        some (0 : Int32)
      else
        some (1 : Int32)
set_option maxHeartbeats 4000000 in
theorem mX7_isRead (τ : Mm) (a1 : Int32) (a2 : Int32) (r : Int32) (hf : X7_isRead τ a1 a2 = some r) : TMi yX7_isRead cX7_isRead 4 (some .boolean) 2 62 (fun aK => [.int a1, .int a2]) r τ τ := by
  refine TMz.of (by decide) rfl (fun _ _ => Nat.le_of_ble_eq_true rfl) ?_
  intro p l e s m args below meth c D cI cZ o z aK aV Q ls hz hx hb hml hown hts hE hret hI hl
  obtain ⟨H, eH⟩ : ∃ H, H = s.heap := ⟨_, rfl⟩
  obtain ⟨locs, eL⟩ : ∃ L : List Loc, L = [] := ⟨_, rfl⟩
  rw [← eH, ← eL] at hI ⊢
  have hl : lv_has ls 4 [(0, .ref o), (1, .int a1), (2, .int a2)] := hl
  unfold X7_isRead at hf
  refine lv_aload_n hx hb dX7_isRead_0 rfl (lv_at hl 0 rfl) ?_
  refine lv_iload_n hx hb dX7_isRead_1 rfl (lv_at hl 1 rfl) ?_
  refine lv_bipush (v := (21 : Int32)) hx hb dX7_isRead_2 (by decide) ?_
  refine lv_idiv hx hb dX7_isRead_4 (by decide) ?_
  refine lv_iconst (v := (1 : Int32)) hx hb dX7_isRead_5 (by decide) ?_
  obtain ⟨x6, ex6, hf⟩ := obd hf
  refine tcallI (rest := []) hx hb hts hown hE hz hI hml hl.1 (mX7_ofInk τ (a1 / (21 : Int32)) (1 : Int32) _ ex6) (cwX7_ofInk hts ⟨Nat.le_of_ble_eq_true rfl, Nat.le_of_ble_eq_true rfl⟩) ⟨Nat.le_of_ble_eq_true rfl, Nat.le_of_ble_eq_true rfl⟩ rfl rfl (lv_room (Nat.le_of_ble_eq_true rfl)) dX7_isRead_6 (fun H locs hI => ?_)
  refine lv_istore_n (lv' := [(3, .int x6), (0, .ref o), (1, .int a1), (2, .int a2)]) hx hb dX7_isRead_9 rfl hl (by decide) rfl (fun ls hl => ?_)
  refine lv_iload_n hx hb dX7_isRead_10 rfl (lv_at hl 3 rfl) ?_
  refine lv_aload_n hx hb dX7_isRead_11 rfl (lv_at hl 1 rfl) ?_
  refine tget hx hb hts hown hE hI 21 (by decide) q2121 rfl dX7_isRead_12 ?_
  refine lv_iload_n hx hb dX7_isRead_15 rfl (lv_at hl 2 rfl) ?_
  obtain ⟨x16, ex16, hf⟩ := obd hf
  refine tald hx hb hE hI 8 126 rfl ex16 dX7_isRead_16 ?_
  refine lv_icmp_lt (tgt := 40) hx hb dX7_isRead_17 (by decide) (fun hc => ?_) (fun hc => ?_)
  · replace hf := ipos hc hf
    refine lv_iconst (v := (0 : Int32)) hx hb dX7_isRead_40 (by decide) ?_
    have hf := Option.some.inj hf
    rw [hf]
    exact hret H locs 41 ls hI (hf ▸ (by decide)) dX7_isRead_41
  · replace hf := ineg hc hf
    refine lv_iload_n hx hb dX7_isRead_20 rfl (lv_at hl 0 rfl) ?_
    refine lv_if_eq (tgt := 36) hx hb dX7_isRead_21 (by decide) (fun hc => ?_) (fun hc => ?_)
    · replace hf := ipos hc hf
      refine lv_iconst (v := (1 : Int32)) hx hb dX7_isRead_36 (by decide) ?_
      refine lv_goto (tgt := 41) hx hb dX7_isRead_37 (by decide) ?_
      have hf := Option.some.inj hf
      rw [hf]
      exact hret H locs 41 ls hI (hf ▸ (by decide)) dX7_isRead_41
    · replace hf := ineg hc hf
      refine lv_iload_n hx hb dX7_isRead_24 rfl (lv_at hl 3 rfl) ?_
      refine lv_aload_n hx hb dX7_isRead_25 rfl (lv_at hl 1 rfl) ?_
      refine tget hx hb hts hown hE hI 21 (by decide) q2121 rfl dX7_isRead_26 ?_
      refine lv_iload_n hx hb dX7_isRead_29 rfl (lv_at hl 2 rfl) ?_
      obtain ⟨x30, ex30, hf⟩ := obd hf
      refine tald hx hb hE hI 8 126 rfl ex30 dX7_isRead_30 ?_
      refine lv_iload_n hx hb dX7_isRead_31 rfl (lv_at hl 0 rfl) ?_
      refine lv_iadd hx hb dX7_isRead_32 ?_
      refine lv_icmp_ge (tgt := 40) hx hb dX7_isRead_33 (by decide) (fun hc => ?_) (fun hc => ?_)
      · replace hf := ipos hc hf
        refine lv_iconst (v := (0 : Int32)) hx hb dX7_isRead_40 (by decide) ?_
        have hf := Option.some.inj hf
        rw [hf]
        exact hret H locs 41 ls hI (hf ▸ (by decide)) dX7_isRead_41
      · replace hf := ineg hc hf
        refine lv_iconst (v := (1 : Int32)) hx hb dX7_isRead_36 (by decide) ?_
        refine lv_goto (tgt := 41) hx hb dX7_isRead_37 (by decide) ?_
        have hf := Option.some.inj hf
        rw [hf]
        exact hret H locs 41 ls hI (hf ▸ (by decide)) dX7_isRead_41
theorem cwX7_isRead {R : Room} {s : State} {args : Array Value} {fr lo : Nat} (hts : ∀ w ∈ lw_all, w.before args s = true) (hR : fr + 1 ≤ R.frames ∧ 8 + (4 + 11) + lo ≤ R.locals) : CallW R s args RX7 RX7 362 yX7_isRead cX7_isRead 4 (some .boolean) (ws_ yX7_isRead cX7_isRead 4 (some .boolean)) ({ frames := fr, cells := 0, slots := 0, locals := lo }) 0 0 2 :=
  cwV 2 hts (lw_V q2592 q2594 qs122 q143 q2595) rfl rfl rfl (by decide +kernel) hR

def X7_heard_L30 (τ : Mm) (c1 : Int32) (w30 : Int32 × Int32) : Option ((Int32 × Int32) ⊕ (Int32)) :=
  if c1 ≤ w30.2 then
    some (.inr w30.1)
  else
    if w30.1 = (0 : Int32) then
      some (.inr w30.1)
    else
      (ld 400 (τ 4) w30.2).bind fun x44 =>
      if (w30.2 - w30.2 / (2 : Int32) * (2 : Int32)) = (0 : Int32) then
        if (61 : Int32) ≤ x44 then
          (some (w30.2 + (1 : Int32))).bind fun v66_4 =>
          some (.inl ((0 : Int32), v66_4))
        else
          (some (w30.2 + (1 : Int32))).bind fun v66_5 =>
          some (.inl ((1 : Int32), v66_5))
      else
        if (2 : Int32) ≤ x44 then
          (some (w30.2 + (1 : Int32))).bind fun v66 =>
          some (.inl ((0 : Int32), v66))
        else
          (some (w30.2 + (1 : Int32))).bind fun v66_3 =>
          some (.inl ((1 : Int32), v66_3))
def X7_heard_L129 (c1 : Int32) (c3 : Int32) (c4 : Int32) (w129 : Mm × Int32) : Option ((Mm × Int32) ⊕ (Mm)) :=
  if c1 ≤ w129.2 then
    some (.inr w129.1)
  else
    (ld 126 (w129.1 6) c4).bind fun x141 =>
    if x141 = (0 : Int32) then
      some (.inr w129.1)
    else
      (ld 400 (w129.1 4) w129.2).bind fun x160 =>
      (X7_isRead w129.1 c4 x160).bind fun x161 =>
      (ld 400 (w129.1 4) (w129.2 + (1 : Int32))).bind fun x172 =>
      if x172 = (1 : Int32) then
        if x161 = (1 : Int32) then
          (sto 126 w129.1 6 c4 (1 : Int32)).bind fun t190_19 =>
          (some (w129.2 + (2 : Int32))).bind fun v191_20 =>
          some (.inl (t190_19, v191_20))
        else
          (sto 126 w129.1 6 c4 (0 : Int32)).bind fun t190_17 =>
          (some (w129.2 + (2 : Int32))).bind fun v191_18 =>
          some (.inl (t190_17, v191_18))
      else
        if x161 = (0 : Int32) then
          (sto 126 w129.1 6 c4 (1 : Int32)).bind fun t190_15 =>
          (some (w129.2 + (2 : Int32))).bind fun v191_16 =>
          some (.inl (t190_15, v191_16))
        else
          (sto 126 w129.1 6 c4 (0 : Int32)).bind fun t190 =>
          (some (w129.2 + (2 : Int32))).bind fun v191 =>
          some (.inl (t190, v191))
def X7_heard_L83 (c1 : Int32) (w83 : Mm × Int32 × Int32) : Option ((Mm × Int32 × Int32) ⊕ (Mm × Int32)) :=
  if ((21 : Int32) * (w83.1 0 4)) ≤ w83.2.2 then
    some (.inr (w83.1, w83.2.1))
  else
    (X7_upOf w83.1 (w83.2.2 / (21 : Int32)) (w83.2.2 - w83.2.2 / (21 : Int32) * (21 : Int32))).bind fun x114 =>
    (sto 126 w83.1 7 w83.2.2 x114).bind fun t117 =>
    (sto 126 t117 6 w83.2.2 (1 : Int32)).bind fun t125 =>
    (loopO (X7_heard_L129 c1 w83.2.1 w83.2.2) FU (t125, (0 : Int32))).bind fun e129 =>
    (ld 126 (e129 6) w83.2.2).bind fun x204 =>
    if x204 = (0 : Int32) then
      (some (w83.2.1 + (0 : Int32))).bind fun v214 =>
      (some (w83.2.2 + (1 : Int32))).bind fun v215 =>
      some (.inl (e129, v214, v215))
    else
      (some (w83.2.1 + (1 : Int32))).bind fun v214_24 =>
      (some (w83.2.2 + (1 : Int32))).bind fun v215_25 =>
      some (.inl (e129, v214_24, v215_25))
def X7_heard_J27 (τ : Mm) (x1 : Int32) (y0 : Int32) : Option (Int32 × Mm) :=
  (loopO (X7_heard_L30 τ x1) FU (y0, (0 : Int32))).bind fun e30 =>
  if e30 = (0 : Int32) then
    some ((-1 : Int32), τ)
  else
    (loopO (X7_heard_L83 x1) FU (τ, (0 : Int32), (0 : Int32))).bind fun e83 =>
    some (e83.2, e83.1)
def X7_heard_J26 (τ : Mm) (x1 : Int32) : Option (Int32 × Mm) :=
  X7_heard_J27 τ x1 (0 : Int32)
def X7_heard (τ : Mm) : Option (Int32 × Mm) :=
  (some (τ 10 8)).bind fun v4 =>
  (some (mup τ 10 8 (0 : Int32))).bind fun t7 =>
  if (v4 - v4 / (2 : Int32) * (2 : Int32)) = (0 : Int32) then
    if (40 : Int32) < v4 then
      X7_heard_J26 t7 v4
    else
      X7_heard_J27 t7 v4 (1 : Int32)
  else
    X7_heard_J26 t7 v4
set_option maxHeartbeats 4000000 in
theorem mX7_heard (τ : Mm) (r : Int32) (τ' : Mm) (hf : X7_heard τ = some (r, τ')) : TMi yX7_heard cX7_heard 6 (some .int) 4 108 (fun aK => []) r τ τ' := by
  refine TMi.of (by decide) rfl (fun _ _ => Nat.le_of_ble_eq_true rfl) ?_
  intro p l e s m args below meth c D cI cZ o z aK aV Q ls hz hx hb hml hown hts hE hret hI hl
  obtain ⟨H, eH⟩ : ∃ H, H = s.heap := ⟨_, rfl⟩
  obtain ⟨locs, eL⟩ : ∃ L : List Loc, L = [] := ⟨_, rfl⟩
  rw [← eH, ← eL] at hI ⊢
  have hl : lv_has ls 6 [(0, .ref o)] := hl
  unfold X7_heard at hf
  have hJ27 : ∀ (τ : Mm) (x1 : Int32) (y0 : Int32) (H : Heap) (locs : List Loc) (ls : Array Slot), X7_heard_J27 τ x1 y0 = some (r, τ') → IT D cI cZ o s H locs τ → lv_has ls 6 [(0, .ref o), (1, .int x1)] → W p l e ({ frames := 4, cells := 0, slots := 0, locals := 108 } : Room) s m args below meth c H locs 0 0 Q (F0 m 27 ls [.int y0]) := by
    intro τ x1 y0 H locs ls hf hI hl
    unfold X7_heard_J27 at hf
    refine lv_istore_n (lv' := [(2, .int y0), (0, .ref o), (1, .int x1)]) hx hb dX7_heard_27 rfl hl (by decide) rfl (fun ls hl => ?_)
    refine lv_iconst (v := (0 : Int32)) hx hb dX7_heard_28 (by decide) ?_
    refine lv_istore_n (lv' := [(3, .int (0 : Int32)), (2, .int y0), (0, .ref o), (1, .int x1)]) hx hb dX7_heard_29 rfl hl (by decide) rfl (fun ls hl => ?_)
    obtain ⟨e30, he30, hf⟩ := obd hf
    have hs30 : ∀ (τ : Mm) (c1 : Int32), ∀ (w30 : Int32 × Int32) (o30 : (Int32 × Int32) ⊕ (Int32)), X7_heard_L30 τ c1 w30 = some o30 → (∀ wx_, o30 = .inl wx_ → ∀ (H : Heap) (locs : List Loc) (ls : Array Slot), IT D cI cZ o s H locs τ → lv_has ls 6 [(0, .ref o), (1, .int c1), (2, .int wx_.1), (3, .int wx_.2)] → W p l e ({ frames := 4, cells := 0, slots := 0, locals := 108 } : Room) s m args below meth c H locs 0 0 Q (F0 m 30 ls [])) → (∀ ex_, o30 = .inr ex_ → ∀ (H : Heap) (locs : List Loc) (ls : Array Slot), IT D cI cZ o s H locs τ → lv_has ls 6 [(0, .ref o), (1, .int c1), (2, .int ex_)] → W p l e ({ frames := 4, cells := 0, slots := 0, locals := 108 } : Room) s m args below meth c H locs 0 0 Q (F0 m 72 ls [])) → ∀ (H : Heap) (locs : List Loc) (ls : Array Slot), IT D cI cZ o s H locs τ → lv_has ls 6 [(0, .ref o), (1, .int c1), (2, .int w30.1), (3, .int w30.2)] → W p l e ({ frames := 4, cells := 0, slots := 0, locals := 108 } : Room) s m args below meth c H locs 0 0 Q (F0 m 30 ls []) := by
      intro τ c1 w30 o30 hf hk hq H locs ls hI hl
      unfold X7_heard_L30 at hf
      refine lv_iload_n hx hb dX7_heard_30 rfl (lv_at hl 3 rfl) ?_
      refine lv_iload_n hx hb dX7_heard_31 rfl (lv_at hl 1 rfl) ?_
      refine lv_icmp_ge (tgt := 72) hx hb dX7_heard_32 (by decide) (fun hc => ?_) (fun hc => ?_)
      · replace hf := ipos hc hf
        exact hq _ (Option.some.inj hf).symm H locs ls hI (lv_sub hl [0, 1, 2] rfl)
      · replace hf := ineg hc hf
        refine lv_iload_n hx hb dX7_heard_35 rfl (lv_at hl 2 rfl) ?_
        refine lv_if_eq (tgt := 72) hx hb dX7_heard_36 (by decide) (fun hc => ?_) (fun hc => ?_)
        · replace hf := ipos hc hf
          exact hq _ (Option.some.inj hf).symm H locs ls hI (lv_sub hl [0, 1, 2] rfl)
        · replace hf := ineg hc hf
          refine lv_aload_n hx hb dX7_heard_39 rfl (lv_at hl 0 rfl) ?_
          refine tget hx hb hts hown hE hI 7 (by decide) q2107 rfl dX7_heard_40 ?_
          refine lv_iload_n hx hb dX7_heard_43 rfl (lv_at hl 3 rfl) ?_
          obtain ⟨x44, ex44, hf⟩ := obd hf
          refine tald hx hb hE hI 5 400 rfl ex44 dX7_heard_44 ?_
          refine lv_iload_n hx hb dX7_heard_45 rfl (lv_at hl 3 rfl) ?_
          refine lv_iconst (v := (2 : Int32)) hx hb dX7_heard_46 (by decide) ?_
          refine lv_irem hx hb dX7_heard_47 (by decide) ?_
          refine lv_if_ne (tgt := 56) hx hb dX7_heard_48 (by decide) (fun hc => ?_) (fun hc => ?_)
          · replace hf := ineg hc hf
            refine lv_iconst (v := (2 : Int32)) hx hb dX7_heard_56 (by decide) ?_
            refine lv_icmp_ge (tgt := 64) hx hb dX7_heard_57 (by decide) (fun hc => ?_) (fun hc => ?_)
            · replace hf := ipos hc hf
              refine lv_iconst (v := (0 : Int32)) hx hb dX7_heard_64 (by decide) ?_
              refine lv_istore_n (lv' := [(2, .int (0 : Int32)), (0, .ref o), (1, .int c1), (3, .int w30.2)]) hx hb dX7_heard_65 rfl hl (by decide) rfl (fun ls hl => ?_)
              obtain ⟨v66, ev66, hf⟩ := obd hf
              refine lv_iinc (v := v66) (lv' := [(3, .int v66), (2, .int (0 : Int32)), (0, .ref o), (1, .int c1)]) hx hb dX7_heard_66 hl (k := 3) rfl (iiE ev66 (by decide)) (by decide) rfl (fun ls hl => ?_)
              refine lv_goto (tgt := 30) hx hb dX7_heard_69 (by decide) ?_
              exact hk _ (Option.some.inj hf).symm H locs ls hI (lv_sub hl [2, 3, 1, 0] rfl)
            · replace hf := ineg hc hf
              refine lv_iconst (v := (1 : Int32)) hx hb dX7_heard_60 (by decide) ?_
              refine lv_goto (tgt := 65) hx hb dX7_heard_61 (by decide) ?_
              refine lv_istore_n (lv' := [(2, .int (1 : Int32)), (0, .ref o), (1, .int c1), (3, .int w30.2)]) hx hb dX7_heard_65 rfl hl (by decide) rfl (fun ls hl => ?_)
              obtain ⟨v66_3, ev66_3, hf⟩ := obd hf
              refine lv_iinc (v := v66_3) (lv' := [(3, .int v66_3), (2, .int (1 : Int32)), (0, .ref o), (1, .int c1)]) hx hb dX7_heard_66 hl (k := 3) rfl (iiE ev66_3 (by decide)) (by decide) rfl (fun ls hl => ?_)
              refine lv_goto (tgt := 30) hx hb dX7_heard_69 (by decide) ?_
              exact hk _ (Option.some.inj hf).symm H locs ls hI (lv_sub hl [2, 3, 1, 0] rfl)
          · replace hf := ipos hc hf
            refine lv_bipush (v := (61 : Int32)) hx hb dX7_heard_51 (by decide) ?_
            refine lv_goto (tgt := 57) hx hb dX7_heard_53 (by decide) ?_
            refine lv_icmp_ge (tgt := 64) hx hb dX7_heard_57 (by decide) (fun hc => ?_) (fun hc => ?_)
            · replace hf := ipos hc hf
              refine lv_iconst (v := (0 : Int32)) hx hb dX7_heard_64 (by decide) ?_
              refine lv_istore_n (lv' := [(2, .int (0 : Int32)), (0, .ref o), (1, .int c1), (3, .int w30.2)]) hx hb dX7_heard_65 rfl hl (by decide) rfl (fun ls hl => ?_)
              obtain ⟨v66_4, ev66_4, hf⟩ := obd hf
              refine lv_iinc (v := v66_4) (lv' := [(3, .int v66_4), (2, .int (0 : Int32)), (0, .ref o), (1, .int c1)]) hx hb dX7_heard_66 hl (k := 3) rfl (iiE ev66_4 (by decide)) (by decide) rfl (fun ls hl => ?_)
              refine lv_goto (tgt := 30) hx hb dX7_heard_69 (by decide) ?_
              exact hk _ (Option.some.inj hf).symm H locs ls hI (lv_sub hl [2, 3, 1, 0] rfl)
            · replace hf := ineg hc hf
              refine lv_iconst (v := (1 : Int32)) hx hb dX7_heard_60 (by decide) ?_
              refine lv_goto (tgt := 65) hx hb dX7_heard_61 (by decide) ?_
              refine lv_istore_n (lv' := [(2, .int (1 : Int32)), (0, .ref o), (1, .int c1), (3, .int w30.2)]) hx hb dX7_heard_65 rfl hl (by decide) rfl (fun ls hl => ?_)
              obtain ⟨v66_5, ev66_5, hf⟩ := obd hf
              refine lv_iinc (v := v66_5) (lv' := [(3, .int v66_5), (2, .int (1 : Int32)), (0, .ref o), (1, .int c1)]) hx hb dX7_heard_66 hl (k := 3) rfl (iiE ev66_5 (by decide)) (by decide) rfl (fun ls hl => ?_)
              refine lv_goto (tgt := 30) hx hb dX7_heard_69 (by decide) ?_
              exact hk _ (Option.some.inj hf).symm H locs ls hI (lv_sub hl [2, 3, 1, 0] rfl)
    refine loopO_W (Wat := fun w30 => ∀ (H : Heap) (locs : List Loc) (ls : Array Slot), IT D cI cZ o s H locs τ → lv_has ls 6 [(0, .ref o), (1, .int x1), (2, .int w30.1), (3, .int w30.2)] → W p l e ({ frames := 4, cells := 0, slots := 0, locals := 108 } : Room) s m args below meth c H locs 0 0 Q (F0 m 30 ls [])) (Wex := fun ex_ => ∀ (H : Heap) (locs : List Loc) (ls : Array Slot), IT D cI cZ o s H locs τ → lv_has ls 6 [(0, .ref o), (1, .int x1), (2, .int ex_)] → W p l e ({ frames := 4, cells := 0, slots := 0, locals := 108 } : Room) s m args below meth c H locs 0 0 Q (F0 m 72 ls [])) (hs30 τ x1) FU _ e30 he30 ?_ H locs ls hI (lv_sub hl [2, 3, 1, 0] rfl)
    · skip
      intro H locs ls hI hl
      refine lv_iload_n hx hb dX7_heard_72 rfl (lv_at hl 2 rfl) ?_
      refine lv_if_ne (tgt := 78) hx hb dX7_heard_73 (by decide) (fun hc => ?_) (fun hc => ?_)
      · replace hf := ineg hc hf
        refine lv_iconst (v := (0 : Int32)) hx hb dX7_heard_78 (by decide) ?_
        refine lv_istore_n (lv' := [(3, .int (0 : Int32)), (0, .ref o), (1, .int x1), (2, .int e30)]) hx hb dX7_heard_79 rfl hl (by decide) rfl (fun ls hl => ?_)
        refine lv_iconst (v := (0 : Int32)) hx hb dX7_heard_80 (by decide) ?_
        refine lv_istore (lv' := [(4, .int (0 : Int32)), (3, .int (0 : Int32)), (0, .ref o), (1, .int x1), (2, .int e30)]) hx hb dX7_heard_81 hl (by decide) rfl (fun ls hl => ?_)
        obtain ⟨e83, he83, hf⟩ := obd hf
        have hs83 : ∀ (c1 : Int32), ∀ (w83 : Mm × Int32 × Int32) (o83 : (Mm × Int32 × Int32) ⊕ (Mm × Int32)), X7_heard_L83 c1 w83 = some o83 → (∀ wx_, o83 = .inl wx_ → ∀ (H : Heap) (locs : List Loc) (ls : Array Slot), IT D cI cZ o s H locs wx_.1 → lv_has ls 6 [(0, .ref o), (1, .int c1), (3, .int wx_.2.1), (4, .int wx_.2.2)] → W p l e ({ frames := 4, cells := 0, slots := 0, locals := 108 } : Room) s m args below meth c H locs 0 0 Q (F0 m 83 ls [])) → (∀ ex_, o83 = .inr ex_ → ∀ (H : Heap) (locs : List Loc) (ls : Array Slot), IT D cI cZ o s H locs ex_.1 → lv_has ls 6 [(3, .int ex_.2)] → W p l e ({ frames := 4, cells := 0, slots := 0, locals := 108 } : Room) s m args below meth c H locs 0 0 Q (F0 m 221 ls [])) → ∀ (H : Heap) (locs : List Loc) (ls : Array Slot), IT D cI cZ o s H locs w83.1 → lv_has ls 6 [(0, .ref o), (1, .int c1), (3, .int w83.2.1), (4, .int w83.2.2)] → W p l e ({ frames := 4, cells := 0, slots := 0, locals := 108 } : Room) s m args below meth c H locs 0 0 Q (F0 m 83 ls []) := by
          intro c1 w83 o83 hf hk hq H locs ls hI hl
          unfold X7_heard_L83 at hf
          refine lv_iload hx hb dX7_heard_83 (lv_at hl 3 rfl) ?_
          refine lv_bipush (v := (21 : Int32)) hx hb dX7_heard_85 (by decide) ?_
          refine lv_aload_n hx hb dX7_heard_87 rfl (lv_at hl 0 rfl) ?_
          refine tget hx hb hts hown hE hI 1 (by decide) q2101 rfl dX7_heard_88 ?_
          refine lv_iconst (v := (4 : Int32)) hx hb dX7_heard_91 (by decide) ?_
          refine taldc hx hb hE hI 1 781 4 rfl (by decide) (by decide) dX7_heard_92 ?_
          refine lv_imul hx hb dX7_heard_93 ?_
          refine lv_icmp_ge (tgt := 221) hx hb dX7_heard_94 (by decide) (fun hc => ?_) (fun hc => ?_)
          · replace hf := ipos hc hf
            exact hq _ (Option.some.inj hf).symm H locs ls hI (lv_sub hl [2] rfl)
          · replace hf := ineg hc hf
            refine lv_aload_n hx hb dX7_heard_97 rfl (lv_at hl 0 rfl) ?_
            refine tget hx hb hts hown hE hI 21 (by decide) q2121 rfl dX7_heard_98 ?_
            refine lv_iload hx hb dX7_heard_101 (lv_at hl 3 rfl) ?_
            refine lv_aload_n hx hb dX7_heard_103 rfl (lv_at hl 0 rfl) ?_
            refine lv_iload hx hb dX7_heard_104 (lv_at hl 3 rfl) ?_
            refine lv_bipush (v := (21 : Int32)) hx hb dX7_heard_106 (by decide) ?_
            refine lv_idiv hx hb dX7_heard_108 (by decide) ?_
            refine lv_iload hx hb dX7_heard_109 (lv_at hl 3 rfl) ?_
            refine lv_bipush (v := (21 : Int32)) hx hb dX7_heard_111 (by decide) ?_
            refine lv_irem hx hb dX7_heard_113 (by decide) ?_
            obtain ⟨x114, ex114, hf⟩ := obd hf
            refine tcallI (rest := [.int w83.2.2, .ref (o + 8)]) hx hb hts hown hE hz hI hml hl.1 (mX7_upOf w83.1 (w83.2.2 / (21 : Int32)) (w83.2.2 - w83.2.2 / (21 : Int32) * (21 : Int32)) _ ex114) (cwX7_upOf hts ⟨Nat.le_of_ble_eq_true rfl, Nat.le_of_ble_eq_true rfl⟩) ⟨Nat.le_of_ble_eq_true rfl, Nat.le_of_ble_eq_true rfl⟩ rfl rfl (lv_room (Nat.le_of_ble_eq_true rfl)) dX7_heard_114 (fun H locs hI => ?_)
            obtain ⟨t117, et117, hf⟩ := obd hf
            refine tast hx hb hE hI 8 126 7 rfl (fun _ => rfl) et117 dX7_heard_117 (fun H locs hI => ?_)
            refine lv_aload_n hx hb dX7_heard_118 rfl (lv_at hl 0 rfl) ?_
            refine tget hx hb hts hown hE hI 20 (by decide) q2120 rfl dX7_heard_119 ?_
            refine lv_iload hx hb dX7_heard_122 (lv_at hl 3 rfl) ?_
            refine lv_iconst (v := (1 : Int32)) hx hb dX7_heard_124 (by decide) ?_
            obtain ⟨t125, et125, hf⟩ := obd hf
            refine tzst hx hb hE hI 7 126 6 rfl (by decide) (fun _ => rfl) et125 dX7_heard_125 (fun H locs hI => ?_)
            refine lv_iconst (v := (0 : Int32)) hx hb dX7_heard_126 (by decide) ?_
            refine lv_istore (lv' := [(5, .int (0 : Int32)), (0, .ref o), (1, .int c1), (3, .int w83.2.1), (4, .int w83.2.2)]) hx hb dX7_heard_127 hl (by decide) rfl (fun ls hl => ?_)
            obtain ⟨e129, he129, hf⟩ := obd hf
            have hs129 : ∀ (c1 : Int32) (c3 : Int32) (c4 : Int32), ∀ (w129 : Mm × Int32) (o129 : (Mm × Int32) ⊕ (Mm)), X7_heard_L129 c1 c3 c4 w129 = some o129 → (∀ wx_, o129 = .inl wx_ → ∀ (H : Heap) (locs : List Loc) (ls : Array Slot), IT D cI cZ o s H locs wx_.1 → lv_has ls 6 [(0, .ref o), (1, .int c1), (3, .int c3), (4, .int c4), (5, .int wx_.2)] → W p l e ({ frames := 4, cells := 0, slots := 0, locals := 108 } : Room) s m args below meth c H locs 0 0 Q (F0 m 129 ls [])) → (∀ ex_, o129 = .inr ex_ → ∀ (H : Heap) (locs : List Loc) (ls : Array Slot), IT D cI cZ o s H locs ex_ → lv_has ls 6 [(0, .ref o), (1, .int c1), (3, .int c3), (4, .int c4)] → W p l e ({ frames := 4, cells := 0, slots := 0, locals := 108 } : Room) s m args below meth c H locs 0 0 Q (F0 m 197 ls [])) → ∀ (H : Heap) (locs : List Loc) (ls : Array Slot), IT D cI cZ o s H locs w129.1 → lv_has ls 6 [(0, .ref o), (1, .int c1), (3, .int c3), (4, .int c4), (5, .int w129.2)] → W p l e ({ frames := 4, cells := 0, slots := 0, locals := 108 } : Room) s m args below meth c H locs 0 0 Q (F0 m 129 ls []) := by
              intro c1 c3 c4 w129 o129 hf hk hq H locs ls hI hl
              unfold X7_heard_L129 at hf
              refine lv_iload hx hb dX7_heard_129 (lv_at hl 4 rfl) ?_
              refine lv_iload_n hx hb dX7_heard_131 rfl (lv_at hl 1 rfl) ?_
              refine lv_icmp_ge (tgt := 197) hx hb dX7_heard_132 (by decide) (fun hc => ?_) (fun hc => ?_)
              · replace hf := ipos hc hf
                exact hq _ (Option.some.inj hf).symm H locs ls hI (lv_sub hl [0, 1, 2, 3] rfl)
              · replace hf := ineg hc hf
                refine lv_aload_n hx hb dX7_heard_135 rfl (lv_at hl 0 rfl) ?_
                refine tget hx hb hts hown hE hI 20 (by decide) q2120 rfl dX7_heard_136 ?_
                refine lv_iload hx hb dX7_heard_139 (lv_at hl 3 rfl) ?_
                obtain ⟨x141, ex141, hf⟩ := obd hf
                refine tzld hx hb hE hI 7 126 rfl ex141 dX7_heard_141 ?_
                refine lv_if_eq (tgt := 197) hx hb dX7_heard_142 (by decide) (fun hc => ?_) (fun hc => ?_)
                · replace hf := ipos hc hf
                  exact hq _ (Option.some.inj hf).symm H locs ls hI (lv_sub hl [0, 1, 2, 3] rfl)
                · replace hf := ineg hc hf
                  refine lv_aload_n hx hb dX7_heard_145 rfl (lv_at hl 0 rfl) ?_
                  refine tget hx hb hts hown hE hI 20 (by decide) q2120 rfl dX7_heard_146 ?_
                  refine lv_iload hx hb dX7_heard_149 (lv_at hl 3 rfl) ?_
                  refine lv_aload_n hx hb dX7_heard_151 rfl (lv_at hl 0 rfl) ?_
                  refine lv_iload hx hb dX7_heard_152 (lv_at hl 3 rfl) ?_
                  refine lv_aload_n hx hb dX7_heard_154 rfl (lv_at hl 0 rfl) ?_
                  refine tget hx hb hts hown hE hI 7 (by decide) q2107 rfl dX7_heard_155 ?_
                  refine lv_iload hx hb dX7_heard_158 (lv_at hl 4 rfl) ?_
                  obtain ⟨x160, ex160, hf⟩ := obd hf
                  refine tald hx hb hE hI 5 400 rfl ex160 dX7_heard_160 ?_
                  obtain ⟨x161, ex161, hf⟩ := obd hf
                  refine tcallI (rest := [.int c4, .ref (o + 7)]) hx hb hts hown hE hz hI hml hl.1 (mX7_isRead w129.1 c4 x160 _ ex161) (cwX7_isRead hts ⟨Nat.le_of_ble_eq_true rfl, Nat.le_of_ble_eq_true rfl⟩) ⟨Nat.le_of_ble_eq_true rfl, Nat.le_of_ble_eq_true rfl⟩ rfl rfl (lv_room (Nat.le_of_ble_eq_true rfl)) dX7_heard_161 (fun H locs hI => ?_)
                  refine lv_aload_n hx hb dX7_heard_164 rfl (lv_at hl 0 rfl) ?_
                  refine tget hx hb hts hown hE hI 7 (by decide) q2107 rfl dX7_heard_165 ?_
                  refine lv_iload hx hb dX7_heard_168 (lv_at hl 4 rfl) ?_
                  refine lv_iconst (v := (1 : Int32)) hx hb dX7_heard_170 (by decide) ?_
                  refine lv_iadd hx hb dX7_heard_171 ?_
                  obtain ⟨x172, ex172, hf⟩ := obd hf
                  refine tald hx hb hE hI 5 400 rfl ex172 dX7_heard_172 ?_
                  refine lv_iconst (v := (1 : Int32)) hx hb dX7_heard_173 (by decide) ?_
                  refine lv_icmp_ne (tgt := 181) hx hb dX7_heard_174 (by decide) (fun hc => ?_) (fun hc => ?_)
                  · replace hf := ineg hc hf
                    refine lv_iconst (v := (0 : Int32)) hx hb dX7_heard_181 (by decide) ?_
                    refine lv_icmp_ne (tgt := 189) hx hb dX7_heard_182 (by decide) (fun hc => ?_) (fun hc => ?_)
                    · replace hf := ineg hc hf
                      refine lv_iconst (v := (0 : Int32)) hx hb dX7_heard_189 (by decide) ?_
                      obtain ⟨t190, et190, hf⟩ := obd hf
                      refine tzst hx hb hE hI 7 126 6 rfl (by decide) (fun _ => rfl) et190 dX7_heard_190 (fun H locs hI => ?_)
                      obtain ⟨v191, ev191, hf⟩ := obd hf
                      refine lv_iinc (v := v191) (lv' := [(5, .int v191), (0, .ref o), (1, .int c1), (3, .int c3), (4, .int c4)]) hx hb dX7_heard_191 hl (k := 4) rfl (iiE ev191 (by decide)) (by decide) rfl (fun ls hl => ?_)
                      refine lv_goto (tgt := 129) hx hb dX7_heard_194 (by decide) ?_
                      exact hk _ (Option.some.inj hf).symm H locs ls hI (lv_sub hl [1, 2, 3, 4, 0] rfl)
                    · replace hf := ipos hc hf
                      refine lv_iconst (v := (1 : Int32)) hx hb dX7_heard_185 (by decide) ?_
                      refine lv_goto (tgt := 190) hx hb dX7_heard_186 (by decide) ?_
                      obtain ⟨t190_15, et190_15, hf⟩ := obd hf
                      refine tzst hx hb hE hI 7 126 6 rfl (by decide) (fun _ => rfl) et190_15 dX7_heard_190 (fun H locs hI => ?_)
                      obtain ⟨v191_16, ev191_16, hf⟩ := obd hf
                      refine lv_iinc (v := v191_16) (lv' := [(5, .int v191_16), (0, .ref o), (1, .int c1), (3, .int c3), (4, .int c4)]) hx hb dX7_heard_191 hl (k := 4) rfl (iiE ev191_16 (by decide)) (by decide) rfl (fun ls hl => ?_)
                      refine lv_goto (tgt := 129) hx hb dX7_heard_194 (by decide) ?_
                      exact hk _ (Option.some.inj hf).symm H locs ls hI (lv_sub hl [1, 2, 3, 4, 0] rfl)
                  · replace hf := ipos hc hf
                    refine lv_iconst (v := (1 : Int32)) hx hb dX7_heard_177 (by decide) ?_
                    refine lv_goto (tgt := 182) hx hb dX7_heard_178 (by decide) ?_
                    refine lv_icmp_ne (tgt := 189) hx hb dX7_heard_182 (by decide) (fun hc => ?_) (fun hc => ?_)
                    · replace hf := ineg hc hf
                      refine lv_iconst (v := (0 : Int32)) hx hb dX7_heard_189 (by decide) ?_
                      obtain ⟨t190_17, et190_17, hf⟩ := obd hf
                      refine tzst hx hb hE hI 7 126 6 rfl (by decide) (fun _ => rfl) et190_17 dX7_heard_190 (fun H locs hI => ?_)
                      obtain ⟨v191_18, ev191_18, hf⟩ := obd hf
                      refine lv_iinc (v := v191_18) (lv' := [(5, .int v191_18), (0, .ref o), (1, .int c1), (3, .int c3), (4, .int c4)]) hx hb dX7_heard_191 hl (k := 4) rfl (iiE ev191_18 (by decide)) (by decide) rfl (fun ls hl => ?_)
                      refine lv_goto (tgt := 129) hx hb dX7_heard_194 (by decide) ?_
                      exact hk _ (Option.some.inj hf).symm H locs ls hI (lv_sub hl [1, 2, 3, 4, 0] rfl)
                    · replace hf := ipos hc hf
                      refine lv_iconst (v := (1 : Int32)) hx hb dX7_heard_185 (by decide) ?_
                      refine lv_goto (tgt := 190) hx hb dX7_heard_186 (by decide) ?_
                      obtain ⟨t190_19, et190_19, hf⟩ := obd hf
                      refine tzst hx hb hE hI 7 126 6 rfl (by decide) (fun _ => rfl) et190_19 dX7_heard_190 (fun H locs hI => ?_)
                      obtain ⟨v191_20, ev191_20, hf⟩ := obd hf
                      refine lv_iinc (v := v191_20) (lv' := [(5, .int v191_20), (0, .ref o), (1, .int c1), (3, .int c3), (4, .int c4)]) hx hb dX7_heard_191 hl (k := 4) rfl (iiE ev191_20 (by decide)) (by decide) rfl (fun ls hl => ?_)
                      refine lv_goto (tgt := 129) hx hb dX7_heard_194 (by decide) ?_
                      exact hk _ (Option.some.inj hf).symm H locs ls hI (lv_sub hl [1, 2, 3, 4, 0] rfl)
            refine loopO_W (Wat := fun w129 => ∀ (H : Heap) (locs : List Loc) (ls : Array Slot), IT D cI cZ o s H locs w129.1 → lv_has ls 6 [(0, .ref o), (1, .int c1), (3, .int w83.2.1), (4, .int w83.2.2), (5, .int w129.2)] → W p l e ({ frames := 4, cells := 0, slots := 0, locals := 108 } : Room) s m args below meth c H locs 0 0 Q (F0 m 129 ls [])) (Wex := fun ex_ => ∀ (H : Heap) (locs : List Loc) (ls : Array Slot), IT D cI cZ o s H locs ex_ → lv_has ls 6 [(0, .ref o), (1, .int c1), (3, .int w83.2.1), (4, .int w83.2.2)] → W p l e ({ frames := 4, cells := 0, slots := 0, locals := 108 } : Room) s m args below meth c H locs 0 0 Q (F0 m 197 ls [])) (hs129 c1 w83.2.1 w83.2.2) FU _ e129 he129 ?_ H locs ls hI (lv_sub hl [1, 2, 3, 4, 0] rfl)
            · skip
              intro H locs ls hI hl
              refine lv_iload_n hx hb dX7_heard_197 rfl (lv_at hl 2 rfl) ?_
              refine lv_aload_n hx hb dX7_heard_198 rfl (lv_at hl 0 rfl) ?_
              refine tget hx hb hts hown hE hI 20 (by decide) q2120 rfl dX7_heard_199 ?_
              refine lv_iload hx hb dX7_heard_202 (lv_at hl 3 rfl) ?_
              obtain ⟨x204, ex204, hf⟩ := obd hf
              refine tzld hx hb hE hI 7 126 rfl ex204 dX7_heard_204 ?_
              refine lv_if_eq (tgt := 212) hx hb dX7_heard_205 (by decide) (fun hc => ?_) (fun hc => ?_)
              · replace hf := ipos hc hf
                refine lv_iconst (v := (0 : Int32)) hx hb dX7_heard_212 (by decide) ?_
                refine lv_iadd hx hb dX7_heard_213 ?_
                obtain ⟨v214, ev214, hf⟩ := obd hf
                refine nmI ev214 ?_
                refine lv_istore_n (lv' := [(3, .int v214), (0, .ref o), (1, .int c1), (4, .int w83.2.2)]) hx hb dX7_heard_214 rfl hl (by decide) rfl (fun ls hl => ?_)
                obtain ⟨v215, ev215, hf⟩ := obd hf
                refine lv_iinc (v := v215) (lv' := [(4, .int v215), (3, .int v214), (0, .ref o), (1, .int c1)]) hx hb dX7_heard_215 hl (k := 3) rfl (iiE ev215 (by decide)) (by decide) rfl (fun ls hl => ?_)
                refine lv_goto (tgt := 83) hx hb dX7_heard_218 (by decide) ?_
                exact hk _ (Option.some.inj hf).symm H locs ls hI (lv_sub hl [2, 3, 1, 0] rfl)
              · replace hf := ineg hc hf
                refine lv_iconst (v := (1 : Int32)) hx hb dX7_heard_208 (by decide) ?_
                refine lv_goto (tgt := 213) hx hb dX7_heard_209 (by decide) ?_
                refine lv_iadd hx hb dX7_heard_213 ?_
                obtain ⟨v214_24, ev214_24, hf⟩ := obd hf
                refine nmI ev214_24 ?_
                refine lv_istore_n (lv' := [(3, .int v214_24), (0, .ref o), (1, .int c1), (4, .int w83.2.2)]) hx hb dX7_heard_214 rfl hl (by decide) rfl (fun ls hl => ?_)
                obtain ⟨v215_25, ev215_25, hf⟩ := obd hf
                refine lv_iinc (v := v215_25) (lv' := [(4, .int v215_25), (3, .int v214_24), (0, .ref o), (1, .int c1)]) hx hb dX7_heard_215 hl (k := 3) rfl (iiE ev215_25 (by decide)) (by decide) rfl (fun ls hl => ?_)
                refine lv_goto (tgt := 83) hx hb dX7_heard_218 (by decide) ?_
                exact hk _ (Option.some.inj hf).symm H locs ls hI (lv_sub hl [2, 3, 1, 0] rfl)
        refine loopO_W (Wat := fun w83 => ∀ (H : Heap) (locs : List Loc) (ls : Array Slot), IT D cI cZ o s H locs w83.1 → lv_has ls 6 [(0, .ref o), (1, .int x1), (3, .int w83.2.1), (4, .int w83.2.2)] → W p l e ({ frames := 4, cells := 0, slots := 0, locals := 108 } : Room) s m args below meth c H locs 0 0 Q (F0 m 83 ls [])) (Wex := fun ex_ => ∀ (H : Heap) (locs : List Loc) (ls : Array Slot), IT D cI cZ o s H locs ex_.1 → lv_has ls 6 [(3, .int ex_.2)] → W p l e ({ frames := 4, cells := 0, slots := 0, locals := 108 } : Room) s m args below meth c H locs 0 0 Q (F0 m 221 ls [])) (hs83 x1) FU _ e83 he83 ?_ H locs ls hI (lv_sub hl [2, 3, 1, 0] rfl)
        · skip
          intro H locs ls hI hl
          refine lv_iload_n hx hb dX7_heard_221 rfl (lv_at hl 0 rfl) ?_
          have hf := Prod.mk.inj (Option.some.inj hf)
          rw [hf.1]
          exact hret H locs 222 ls (hf.2 ▸ hI) dX7_heard_222
      · replace hf := ipos hc hf
        refine lv_iconst (v := (-1 : Int32)) hx hb dX7_heard_76 (by decide) ?_
        have hf := Prod.mk.inj (Option.some.inj hf)
        rw [hf.1]
        exact hret H locs 77 ls (hf.2 ▸ hI) dX7_heard_77
  have hJ26 : ∀ (τ : Mm) (x1 : Int32) (H : Heap) (locs : List Loc) (ls : Array Slot), X7_heard_J26 τ x1 = some (r, τ') → IT D cI cZ o s H locs τ → lv_has ls 6 [(0, .ref o), (1, .int x1)] → W p l e ({ frames := 4, cells := 0, slots := 0, locals := 108 } : Room) s m args below meth c H locs 0 0 Q (F0 m 26 ls []) := by
    intro τ x1 H locs ls hf hI hl
    unfold X7_heard_J26 at hf
    refine lv_iconst (v := (0 : Int32)) hx hb dX7_heard_26 (by decide) ?_
    exact hJ27 τ x1 (0 : Int32) H locs ls hf hI  (lv_sub hl [0, 1] rfl)
  refine lv_aload_n hx hb dX7_heard_0 rfl (lv_at hl 0 rfl) ?_
  refine tget hx hb hts hown hE hI 8 (by decide) q2108 rfl dX7_heard_1 ?_
  obtain ⟨v4, ev4, hf⟩ := obd hf
  refine nmI ev4 ?_
  refine lv_istore_n (lv' := [(1, .int v4), (0, .ref o)]) hx hb dX7_heard_4 rfl hl (by decide) rfl (fun ls hl => ?_)
  refine lv_aload_n hx hb dX7_heard_5 rfl (lv_at hl 1 rfl) ?_
  refine lv_iconst (v := (0 : Int32)) hx hb dX7_heard_6 (by decide) ?_
  obtain ⟨t7, et7, hf⟩ := obd hf
  refine tput hx hb hts hown hE hI 8 (by decide) q2108 rfl (tyX7_ok 8 (by decide)) rfl rfl rfl et7 dX7_heard_7 (fun H locs hI => ?_)
  refine lv_iload_n hx hb dX7_heard_10 rfl (lv_at hl 0 rfl) ?_
  refine lv_iconst (v := (2 : Int32)) hx hb dX7_heard_11 (by decide) ?_
  refine lv_irem hx hb dX7_heard_12 (by decide) ?_
  refine lv_if_ne (tgt := 26) hx hb dX7_heard_13 (by decide) (fun hc => ?_) (fun hc => ?_)
  · replace hf := ineg hc hf
    exact hJ26 t7 v4 H locs ls hf hI  (lv_sub hl [1, 0] rfl)
  · replace hf := ipos hc hf
    refine lv_iload_n hx hb dX7_heard_16 rfl (lv_at hl 0 rfl) ?_
    refine lv_bipush (v := (40 : Int32)) hx hb dX7_heard_17 (by decide) ?_
    refine lv_icmp_gt (tgt := 26) hx hb dX7_heard_19 (by decide) (fun hc => ?_) (fun hc => ?_)
    · replace hf := ipos hc hf
      exact hJ26 t7 v4 H locs ls hf hI  (lv_sub hl [1, 0] rfl)
    · replace hf := ineg hc hf
      refine lv_iconst (v := (1 : Int32)) hx hb dX7_heard_22 (by decide) ?_
      refine lv_goto (tgt := 27) hx hb dX7_heard_23 (by decide) ?_
      exact hJ27 t7 v4 (1 : Int32) H locs ls hf hI  (lv_sub hl [1, 0] rfl)
theorem cwX7_heard {R : Room} {s : State} {args : Array Value} {fr lo : Nat} (hts : ∀ w ∈ lw_all, w.before args s = true) (hR : fr + 1 ≤ R.frames ∧ 8 + (6 + 11) + lo ≤ R.locals) : CallW R s args RX7 RX7 365 yX7_heard cX7_heard 6 (some .int) (ws_ yX7_heard cX7_heard 6 (some .int)) ({ frames := fr, cells := 0, slots := 0, locals := lo }) 0 0 0 :=
  cwV 0 hts (lw_V q2584 q2586 qs120 q143 q2587) rfl rfl rfl (by decide +kernel) hR

def X7_jars_L48 (τ : Mm) (w48 : Int32 × Int32) : Option ((Int32 × Int32) ⊕ (Int32)) :=
  if ((21 : Int32) * (τ 0 4)) ≤ w48.2 then
    some (.inr w48.1)
  else
    (ld 126 (τ 6) w48.2).bind fun x69 =>
    if x69 = (0 : Int32) then
      (some (w48.1 ||| (0 : Int32))).bind fun v85 =>
      (some (w48.2 + (1 : Int32))).bind fun v86 =>
      some (.inl (v85, v86))
    else
      (some (w48.1 ||| ((1 : Int32) <<< ((w48.2 / (21 : Int32)) &&& (31 : Int32))))).bind fun v85_5 =>
      (some (w48.2 + (1 : Int32))).bind fun v86_6 =>
      some (.inl (v85_5, v86_6))
def X7_jars_J16 (τ : Mm) (a1 : Int32) (x2 : Int32) (y0 : Int32) : Option (Int32 × Mm) :=
  (some (mup τ 10 0 y0)).bind fun t16 =>
  if (0 : Int32) < (t16 10 0) then
    if (t16 10 0) ≤ (0 : Int32) then
      some (x2, t16)
    else
      some ((0 : Int32), t16)
  else
    if a1 = (0 : Int32) then
      if (t16 10 0) ≤ (0 : Int32) then
        some (x2, t16)
      else
        some ((0 : Int32), t16)
    else
      (loopO (X7_jars_L48 t16) FU ((0 : Int32), (0 : Int32))).bind fun e48 =>
      some (e48, t16)
def X7_jars (τ : Mm) (a1 : Int32) : Option (Int32 × Mm) :=
  (X7_heard τ).bind fun x1 =>
  if x1.1 = (-1 : Int32) then
    X7_jars_J16 x1.2 a1 x1.1 (1 : Int32)
  else
    X7_jars_J16 x1.2 a1 x1.1 (0 : Int32)
set_option maxHeartbeats 4000000 in
theorem mX7_jars (τ : Mm) (a1 : Int32) (r : Int32) (τ' : Mm) (hf : X7_jars τ a1 = some (r, τ')) : TMi yX7_jars cX7_jars 5 (some .int) 5 133 (fun aK => [.int a1]) r τ τ' := by
  refine TMi.of (by decide) rfl (fun _ _ => Nat.le_of_ble_eq_true rfl) ?_
  intro p l e s m args below meth c D cI cZ o z aK aV Q ls hz hx hb hml hown hts hE hret hI hl
  obtain ⟨H, eH⟩ : ∃ H, H = s.heap := ⟨_, rfl⟩
  obtain ⟨locs, eL⟩ : ∃ L : List Loc, L = [] := ⟨_, rfl⟩
  rw [← eH, ← eL] at hI ⊢
  have hl : lv_has ls 5 [(0, .ref o), (1, .int a1)] := hl
  unfold X7_jars at hf
  have hJ16 : ∀ (τ : Mm) (x2 : Int32) (y0 : Int32) (H : Heap) (locs : List Loc) (ls : Array Slot), X7_jars_J16 τ a1 x2 y0 = some (r, τ') → IT D cI cZ o s H locs τ → lv_has ls 5 [(0, .ref o), (1, .int a1), (2, .int x2)] → W p l e ({ frames := 5, cells := 0, slots := 0, locals := 133 } : Room) s m args below meth c H locs 0 0 Q (F0 m 16 ls [.int y0, .ref o]) := by
    intro τ x2 y0 H locs ls hf hI hl
    unfold X7_jars_J16 at hf
    obtain ⟨t16, et16, hf⟩ := obd hf
    refine tput hx hb hts hown hE hI 0 (by decide) q2100 rfl (tyX7_ok 0 (by decide)) rfl rfl rfl et16 dX7_jars_16 (fun H locs hI => ?_)
    refine lv_aload_n hx hb dX7_jars_19 rfl (lv_at hl 0 rfl) ?_
    refine tget hx hb hts hown hE hI 0 (by decide) q2100 rfl dX7_jars_20 ?_
    refine lv_if_gt (tgt := 30) hx hb dX7_jars_23 (by decide) (fun hc => ?_) (fun hc => ?_)
    · replace hf := ipos hc hf
      refine lv_aload_n hx hb dX7_jars_30 rfl (lv_at hl 0 rfl) ?_
      refine tget hx hb hts hown hE hI 0 (by decide) q2100 rfl dX7_jars_31 ?_
      refine lv_if_le (tgt := 41) hx hb dX7_jars_34 (by decide) (fun hc => ?_) (fun hc => ?_)
      · replace hf := ipos hc hf
        refine lv_iload_n hx hb dX7_jars_41 rfl (lv_at hl 2 rfl) ?_
        have hf := Prod.mk.inj (Option.some.inj hf)
        rw [hf.1]
        exact hret H locs 42 ls (hf.2 ▸ hI) dX7_jars_42
      · replace hf := ineg hc hf
        refine lv_iconst (v := (0 : Int32)) hx hb dX7_jars_37 (by decide) ?_
        refine lv_goto (tgt := 42) hx hb dX7_jars_38 (by decide) ?_
        have hf := Prod.mk.inj (Option.some.inj hf)
        rw [hf.1]
        exact hret H locs 42 ls (hf.2 ▸ hI) dX7_jars_42
    · replace hf := ineg hc hf
      refine lv_iload_n hx hb dX7_jars_26 rfl (lv_at hl 1 rfl) ?_
      refine lv_if_ne (tgt := 43) hx hb dX7_jars_27 (by decide) (fun hc => ?_) (fun hc => ?_)
      · replace hf := ineg hc hf
        refine lv_iconst (v := (0 : Int32)) hx hb dX7_jars_43 (by decide) ?_
        refine lv_istore_n (lv' := [(3, .int (0 : Int32)), (0, .ref o), (1, .int a1), (2, .int x2)]) hx hb dX7_jars_44 rfl hl (by decide) rfl (fun ls hl => ?_)
        refine lv_iconst (v := (0 : Int32)) hx hb dX7_jars_45 (by decide) ?_
        refine lv_istore (lv' := [(4, .int (0 : Int32)), (3, .int (0 : Int32)), (0, .ref o), (1, .int a1), (2, .int x2)]) hx hb dX7_jars_46 hl (by decide) rfl (fun ls hl => ?_)
        obtain ⟨e48, he48, hf⟩ := obd hf
        have hs48 : ∀ (τ : Mm) , ∀ (w48 : Int32 × Int32) (o48 : (Int32 × Int32) ⊕ (Int32)), X7_jars_L48 τ w48 = some o48 → (∀ wx_, o48 = .inl wx_ → ∀ (H : Heap) (locs : List Loc) (ls : Array Slot), IT D cI cZ o s H locs τ → lv_has ls 5 [(0, .ref o), (3, .int wx_.1), (4, .int wx_.2)] → W p l e ({ frames := 5, cells := 0, slots := 0, locals := 133 } : Room) s m args below meth c H locs 0 0 Q (F0 m 48 ls [])) → (∀ ex_, o48 = .inr ex_ → ∀ (H : Heap) (locs : List Loc) (ls : Array Slot), IT D cI cZ o s H locs τ → lv_has ls 5 [(3, .int ex_)] → W p l e ({ frames := 5, cells := 0, slots := 0, locals := 133 } : Room) s m args below meth c H locs 0 0 Q (F0 m 92 ls [])) → ∀ (H : Heap) (locs : List Loc) (ls : Array Slot), IT D cI cZ o s H locs τ → lv_has ls 5 [(0, .ref o), (3, .int w48.1), (4, .int w48.2)] → W p l e ({ frames := 5, cells := 0, slots := 0, locals := 133 } : Room) s m args below meth c H locs 0 0 Q (F0 m 48 ls []) := by
          intro τ  w48 o48 hf hk hq H locs ls hI hl
          unfold X7_jars_L48 at hf
          refine lv_iload hx hb dX7_jars_48 (lv_at hl 2 rfl) ?_
          refine lv_bipush (v := (21 : Int32)) hx hb dX7_jars_50 (by decide) ?_
          refine lv_aload_n hx hb dX7_jars_52 rfl (lv_at hl 0 rfl) ?_
          refine tget hx hb hts hown hE hI 1 (by decide) q2101 rfl dX7_jars_53 ?_
          refine lv_iconst (v := (4 : Int32)) hx hb dX7_jars_56 (by decide) ?_
          refine taldc hx hb hE hI 1 781 4 rfl (by decide) (by decide) dX7_jars_57 ?_
          refine lv_imul hx hb dX7_jars_58 ?_
          refine lv_icmp_ge (tgt := 92) hx hb dX7_jars_59 (by decide) (fun hc => ?_) (fun hc => ?_)
          · replace hf := ipos hc hf
            exact hq _ (Option.some.inj hf).symm H locs ls hI (lv_sub hl [1] rfl)
          · replace hf := ineg hc hf
            refine lv_iload_n hx hb dX7_jars_62 rfl (lv_at hl 1 rfl) ?_
            refine lv_aload_n hx hb dX7_jars_63 rfl (lv_at hl 0 rfl) ?_
            refine tget hx hb hts hown hE hI 20 (by decide) q2120 rfl dX7_jars_64 ?_
            refine lv_iload hx hb dX7_jars_67 (lv_at hl 2 rfl) ?_
            obtain ⟨x69, ex69, hf⟩ := obd hf
            refine tzld hx hb hE hI 7 126 rfl ex69 dX7_jars_69 ?_
            refine lv_if_eq (tgt := 83) hx hb dX7_jars_70 (by decide) (fun hc => ?_) (fun hc => ?_)
            · replace hf := ipos hc hf
              refine lv_iconst (v := (0 : Int32)) hx hb dX7_jars_83 (by decide) ?_
              refine lv_ior hx hb dX7_jars_84 ?_
              obtain ⟨v85, ev85, hf⟩ := obd hf
              refine nmI ev85 ?_
              refine lv_istore_n (lv' := [(3, .int v85), (0, .ref o), (4, .int w48.2)]) hx hb dX7_jars_85 rfl hl (by decide) rfl (fun ls hl => ?_)
              obtain ⟨v86, ev86, hf⟩ := obd hf
              refine lv_iinc (v := v86) (lv' := [(4, .int v86), (3, .int v85), (0, .ref o)]) hx hb dX7_jars_86 hl (k := 2) rfl (iiE ev86 (by decide)) (by decide) rfl (fun ls hl => ?_)
              refine lv_goto (tgt := 48) hx hb dX7_jars_89 (by decide) ?_
              exact hk _ (Option.some.inj hf).symm H locs ls hI (lv_sub hl [2, 1, 0] rfl)
            · replace hf := ineg hc hf
              refine lv_iconst (v := (1 : Int32)) hx hb dX7_jars_73 (by decide) ?_
              refine lv_iload hx hb dX7_jars_74 (lv_at hl 2 rfl) ?_
              refine lv_bipush (v := (21 : Int32)) hx hb dX7_jars_76 (by decide) ?_
              refine lv_idiv hx hb dX7_jars_78 (by decide) ?_
              refine lv_ishl hx hb dX7_jars_79 ?_
              refine lv_goto (tgt := 84) hx hb dX7_jars_80 (by decide) ?_
              refine lv_ior hx hb dX7_jars_84 ?_
              obtain ⟨v85_5, ev85_5, hf⟩ := obd hf
              refine nmI ev85_5 ?_
              refine lv_istore_n (lv' := [(3, .int v85_5), (0, .ref o), (4, .int w48.2)]) hx hb dX7_jars_85 rfl hl (by decide) rfl (fun ls hl => ?_)
              obtain ⟨v86_6, ev86_6, hf⟩ := obd hf
              refine lv_iinc (v := v86_6) (lv' := [(4, .int v86_6), (3, .int v85_5), (0, .ref o)]) hx hb dX7_jars_86 hl (k := 2) rfl (iiE ev86_6 (by decide)) (by decide) rfl (fun ls hl => ?_)
              refine lv_goto (tgt := 48) hx hb dX7_jars_89 (by decide) ?_
              exact hk _ (Option.some.inj hf).symm H locs ls hI (lv_sub hl [2, 1, 0] rfl)
        refine loopO_W (Wat := fun w48 => ∀ (H : Heap) (locs : List Loc) (ls : Array Slot), IT D cI cZ o s H locs t16 → lv_has ls 5 [(0, .ref o), (3, .int w48.1), (4, .int w48.2)] → W p l e ({ frames := 5, cells := 0, slots := 0, locals := 133 } : Room) s m args below meth c H locs 0 0 Q (F0 m 48 ls [])) (Wex := fun ex_ => ∀ (H : Heap) (locs : List Loc) (ls : Array Slot), IT D cI cZ o s H locs t16 → lv_has ls 5 [(3, .int ex_)] → W p l e ({ frames := 5, cells := 0, slots := 0, locals := 133 } : Room) s m args below meth c H locs 0 0 Q (F0 m 92 ls [])) (hs48 t16) FU _ e48 he48 ?_ H locs ls hI (lv_sub hl [2, 1, 0] rfl)
        · skip
          intro H locs ls hI hl
          refine lv_iload_n hx hb dX7_jars_92 rfl (lv_at hl 0 rfl) ?_
          have hf := Prod.mk.inj (Option.some.inj hf)
          rw [hf.1]
          exact hret H locs 93 ls (hf.2 ▸ hI) dX7_jars_93
      · replace hf := ipos hc hf
        refine lv_aload_n hx hb dX7_jars_30 rfl (lv_at hl 0 rfl) ?_
        refine tget hx hb hts hown hE hI 0 (by decide) q2100 rfl dX7_jars_31 ?_
        refine lv_if_le (tgt := 41) hx hb dX7_jars_34 (by decide) (fun hc => ?_) (fun hc => ?_)
        · replace hf := ipos hc hf
          refine lv_iload_n hx hb dX7_jars_41 rfl (lv_at hl 2 rfl) ?_
          have hf := Prod.mk.inj (Option.some.inj hf)
          rw [hf.1]
          exact hret H locs 42 ls (hf.2 ▸ hI) dX7_jars_42
        · replace hf := ineg hc hf
          refine lv_iconst (v := (0 : Int32)) hx hb dX7_jars_37 (by decide) ?_
          refine lv_goto (tgt := 42) hx hb dX7_jars_38 (by decide) ?_
          have hf := Prod.mk.inj (Option.some.inj hf)
          rw [hf.1]
          exact hret H locs 42 ls (hf.2 ▸ hI) dX7_jars_42
  refine lv_aload_n hx hb dX7_jars_0 rfl (lv_at hl 0 rfl) ?_
  obtain ⟨x1, ex1, hf⟩ := obd hf
  refine tcallI (rest := []) hx hb hts hown hE hz hI hml hl.1 (mX7_heard τ _ _ ex1) (cwX7_heard hts ⟨Nat.le_of_ble_eq_true rfl, Nat.le_of_ble_eq_true rfl⟩) ⟨Nat.le_of_ble_eq_true rfl, Nat.le_of_ble_eq_true rfl⟩ rfl rfl (lv_room (Nat.le_of_ble_eq_true rfl)) dX7_jars_1 (fun H locs hI => ?_)
  refine lv_istore_n (lv' := [(2, .int x1.1), (0, .ref o), (1, .int a1)]) hx hb dX7_jars_4 rfl hl (by decide) rfl (fun ls hl => ?_)
  refine lv_aload_n hx hb dX7_jars_5 rfl (lv_at hl 1 rfl) ?_
  refine lv_iload_n hx hb dX7_jars_6 rfl (lv_at hl 0 rfl) ?_
  refine lv_iconst (v := (-1 : Int32)) hx hb dX7_jars_7 (by decide) ?_
  refine lv_icmp_ne (tgt := 15) hx hb dX7_jars_8 (by decide) (fun hc => ?_) (fun hc => ?_)
  · replace hf := ineg hc hf
    refine lv_iconst (v := (0 : Int32)) hx hb dX7_jars_15 (by decide) ?_
    exact hJ16 x1.2 x1.1 (0 : Int32) H locs ls hf hI  (lv_sub hl [1, 2, 0] rfl)
  · replace hf := ipos hc hf
    refine lv_iconst (v := (1 : Int32)) hx hb dX7_jars_11 (by decide) ?_
    refine lv_goto (tgt := 16) hx hb dX7_jars_12 (by decide) ?_
    exact hJ16 x1.2 x1.1 (1 : Int32) H locs ls hf hI  (lv_sub hl [1, 2, 0] rfl)


def X7_ask_L55 (τ : Mm) (c1 : Int32) (c2 : Int32) (c3 : Int32) (c4 : Int32) (w55 : Int32 × Int32) : Option ((Int32 × Int32) ⊕ (Int32)) :=
  if ((21 : Int32) * (τ 0 4)) ≤ w55.2 then
    some (.inr w55.1)
  else
    (ld 126 (τ 6) w55.2).bind fun x77 =>
    if x77 = (0 : Int32) then
      (some (w55.1 + (0 : Int32))).bind fun v98 =>
      (some (w55.2 + (1 : Int32))).bind fun v100 =>
      some (.inl (v98, v100))
    else
      (X7_isRead τ w55.2 c4).bind fun x86 =>
      if x86 = (0 : Int32) then
        (some (w55.1 + (0 : Int32))).bind fun v98_6 =>
        (some (w55.2 + (1 : Int32))).bind fun v100_7 =>
        some (.inl (v98_6, v100_7))
      else
        (some (w55.1 + (1 : Int32))).bind fun v98_8 =>
        (some (w55.2 + (1 : Int32))).bind fun v100_9 =>
        some (.inl (v98_8, v100_9))
def X7_ask_L37 (τ : Mm) (c1 : Int32) (w37 : Int32 × Int32 × Int32) : Option ((Int32 × Int32 × Int32) ⊕ (Int32)) :=
  if (60 : Int32) < w37.2.2 then
    some (.inr w37.1)
  else
    if c1 ≤ (1 : Int32) then
      some (.inr w37.1)
    else
      (loopO (X7_ask_L55 τ c1 w37.1 w37.2.1 w37.2.2) FU ((0 : Int32), (0 : Int32))).bind fun e55 =>
      (X7_greater e55 (c1 - e55)).bind fun x112 =>
      if x112 < w37.2.1 then
        (X7_greater e55 (c1 - e55)).bind fun x128 =>
        (some (w37.2.2 + (1 : Int32))).bind fun v135 =>
        some (.inl (w37.2.2, x128, v135))
      else
        (some (w37.2.2 + (1 : Int32))).bind fun v135_13 =>
        some (.inl (w37.1, w37.2.1, v135_13))
def X7_ask_J16 (τ : Mm) (x1 : Int32) (y0 : Int32) : Option (Int32 × Mm) :=
  (some (mup τ 10 0 y0)).bind fun t16 =>
  if (t16 10 0) ≤ (0 : Int32) then
    (loopO (X7_ask_L37 t16 x1) FU ((-1 : Int32), (2000000000 : Int32), (0 : Int32))).bind fun e37 =>
    some (e37, t16)
  else
    some ((0 : Int32), t16)
def X7_ask (τ : Mm) : Option (Int32 × Mm) :=
  (X7_heard τ).bind fun x1 =>
  if x1.1 = (-1 : Int32) then
    X7_ask_J16 x1.2 x1.1 (1 : Int32)
  else
    X7_ask_J16 x1.2 x1.1 (0 : Int32)
set_option maxHeartbeats 4000000 in
theorem mX7_ask (τ : Mm) (r : Int32) (τ' : Mm) (hf : X7_ask τ = some (r, τ')) : TMi yX7_ask cX7_ask 7 (some .int) 5 133 (fun aK => []) r τ τ' := by
  refine TMi.of (by decide) rfl (fun _ _ => Nat.le_of_ble_eq_true rfl) ?_
  intro p l e s m args below meth c D cI cZ o z aK aV Q ls hz hx hb hml hown hts hE hret hI hl
  obtain ⟨H, eH⟩ : ∃ H, H = s.heap := ⟨_, rfl⟩
  obtain ⟨locs, eL⟩ : ∃ L : List Loc, L = [] := ⟨_, rfl⟩
  rw [← eH, ← eL] at hI ⊢
  have hl : lv_has ls 7 [(0, .ref o)] := hl
  unfold X7_ask at hf
  have hJ16 : ∀ (τ : Mm) (x1 : Int32) (y0 : Int32) (H : Heap) (locs : List Loc) (ls : Array Slot), X7_ask_J16 τ x1 y0 = some (r, τ') → IT D cI cZ o s H locs τ → lv_has ls 7 [(0, .ref o), (1, .int x1)] → W p l e ({ frames := 5, cells := 0, slots := 0, locals := 133 } : Room) s m args below meth c H locs 0 0 Q (F0 m 16 ls [.int y0, .ref o]) := by
    intro τ x1 y0 H locs ls hf hI hl
    unfold X7_ask_J16 at hf
    obtain ⟨t16, et16, hf⟩ := obd hf
    refine tput hx hb hts hown hE hI 0 (by decide) q2100 rfl (tyX7_ok 0 (by decide)) rfl rfl rfl et16 dX7_ask_16 (fun H locs hI => ?_)
    refine lv_aload_n hx hb dX7_ask_19 rfl (lv_at hl 0 rfl) ?_
    refine tget hx hb hts hown hE hI 0 (by decide) q2100 rfl dX7_ask_20 ?_
    refine lv_if_le (tgt := 28) hx hb dX7_ask_23 (by decide) (fun hc => ?_) (fun hc => ?_)
    · replace hf := ipos hc hf
      refine lv_iconst (v := (-1 : Int32)) hx hb dX7_ask_28 (by decide) ?_
      refine lv_istore_n (lv' := [(2, .int (-1 : Int32)), (0, .ref o), (1, .int x1)]) hx hb dX7_ask_29 rfl hl (by decide) rfl (fun ls hl => ?_)
      refine lv_ldcw hx hb hown (hts _ q2600) dX7_ask_30 ?_
      refine lv_istore_n (lv' := [(3, .int (2000000000 : Int32)), (2, .int (-1 : Int32)), (0, .ref o), (1, .int x1)]) hx hb dX7_ask_33 rfl hl (by decide) rfl (fun ls hl => ?_)
      refine lv_iconst (v := (0 : Int32)) hx hb dX7_ask_34 (by decide) ?_
      refine lv_istore (lv' := [(4, .int (0 : Int32)), (3, .int (2000000000 : Int32)), (2, .int (-1 : Int32)), (0, .ref o), (1, .int x1)]) hx hb dX7_ask_35 hl (by decide) rfl (fun ls hl => ?_)
      obtain ⟨e37, he37, hf⟩ := obd hf
      have hs37 : ∀ (τ : Mm) (c1 : Int32), ∀ (w37 : Int32 × Int32 × Int32) (o37 : (Int32 × Int32 × Int32) ⊕ (Int32)), X7_ask_L37 τ c1 w37 = some o37 → (∀ wx_, o37 = .inl wx_ → ∀ (H : Heap) (locs : List Loc) (ls : Array Slot), IT D cI cZ o s H locs τ → lv_has ls 7 [(0, .ref o), (1, .int c1), (2, .int wx_.1), (3, .int wx_.2.1), (4, .int wx_.2.2)] → W p l e ({ frames := 5, cells := 0, slots := 0, locals := 133 } : Room) s m args below meth c H locs 0 0 Q (F0 m 37 ls [])) → (∀ ex_, o37 = .inr ex_ → ∀ (H : Heap) (locs : List Loc) (ls : Array Slot), IT D cI cZ o s H locs τ → lv_has ls 7 [(2, .int ex_)] → W p l e ({ frames := 5, cells := 0, slots := 0, locals := 133 } : Room) s m args below meth c H locs 0 0 Q (F0 m 141 ls [])) → ∀ (H : Heap) (locs : List Loc) (ls : Array Slot), IT D cI cZ o s H locs τ → lv_has ls 7 [(0, .ref o), (1, .int c1), (2, .int w37.1), (3, .int w37.2.1), (4, .int w37.2.2)] → W p l e ({ frames := 5, cells := 0, slots := 0, locals := 133 } : Room) s m args below meth c H locs 0 0 Q (F0 m 37 ls []) := by
        intro τ c1 w37 o37 hf hk hq H locs ls hI hl
        unfold X7_ask_L37 at hf
        refine lv_iload hx hb dX7_ask_37 (lv_at hl 4 rfl) ?_
        refine lv_bipush (v := (60 : Int32)) hx hb dX7_ask_39 (by decide) ?_
        refine lv_icmp_gt (tgt := 141) hx hb dX7_ask_41 (by decide) (fun hc => ?_) (fun hc => ?_)
        · replace hf := ipos hc hf
          exact hq _ (Option.some.inj hf).symm H locs ls hI (lv_sub hl [2] rfl)
        · replace hf := ineg hc hf
          refine lv_iload_n hx hb dX7_ask_44 rfl (lv_at hl 1 rfl) ?_
          refine lv_iconst (v := (1 : Int32)) hx hb dX7_ask_45 (by decide) ?_
          refine lv_icmp_le (tgt := 141) hx hb dX7_ask_46 (by decide) (fun hc => ?_) (fun hc => ?_)
          · replace hf := ipos hc hf
            exact hq _ (Option.some.inj hf).symm H locs ls hI (lv_sub hl [2] rfl)
          · replace hf := ineg hc hf
            refine lv_iconst (v := (0 : Int32)) hx hb dX7_ask_49 (by decide) ?_
            refine lv_istore (lv' := [(5, .int (0 : Int32)), (0, .ref o), (1, .int c1), (2, .int w37.1), (3, .int w37.2.1), (4, .int w37.2.2)]) hx hb dX7_ask_50 hl (by decide) rfl (fun ls hl => ?_)
            refine lv_iconst (v := (0 : Int32)) hx hb dX7_ask_52 (by decide) ?_
            refine lv_istore (lv' := [(6, .int (0 : Int32)), (5, .int (0 : Int32)), (0, .ref o), (1, .int c1), (2, .int w37.1), (3, .int w37.2.1), (4, .int w37.2.2)]) hx hb dX7_ask_53 hl (by decide) rfl (fun ls hl => ?_)
            obtain ⟨e55, he55, hf⟩ := obd hf
            have hs55 : ∀ (τ : Mm) (c1 : Int32) (c2 : Int32) (c3 : Int32) (c4 : Int32), ∀ (w55 : Int32 × Int32) (o55 : (Int32 × Int32) ⊕ (Int32)), X7_ask_L55 τ c1 c2 c3 c4 w55 = some o55 → (∀ wx_, o55 = .inl wx_ → ∀ (H : Heap) (locs : List Loc) (ls : Array Slot), IT D cI cZ o s H locs τ → lv_has ls 7 [(0, .ref o), (1, .int c1), (2, .int c2), (3, .int c3), (4, .int c4), (5, .int wx_.1), (6, .int wx_.2)] → W p l e ({ frames := 5, cells := 0, slots := 0, locals := 133 } : Room) s m args below meth c H locs 0 0 Q (F0 m 55 ls [])) → (∀ ex_, o55 = .inr ex_ → ∀ (H : Heap) (locs : List Loc) (ls : Array Slot), IT D cI cZ o s H locs τ → lv_has ls 7 [(0, .ref o), (1, .int c1), (2, .int c2), (3, .int c3), (4, .int c4), (5, .int ex_)] → W p l e ({ frames := 5, cells := 0, slots := 0, locals := 133 } : Room) s m args below meth c H locs 0 0 Q (F0 m 106 ls [])) → ∀ (H : Heap) (locs : List Loc) (ls : Array Slot), IT D cI cZ o s H locs τ → lv_has ls 7 [(0, .ref o), (1, .int c1), (2, .int c2), (3, .int c3), (4, .int c4), (5, .int w55.1), (6, .int w55.2)] → W p l e ({ frames := 5, cells := 0, slots := 0, locals := 133 } : Room) s m args below meth c H locs 0 0 Q (F0 m 55 ls []) := by
              intro τ c1 c2 c3 c4 w55 o55 hf hk hq H locs ls hI hl
              unfold X7_ask_L55 at hf
              refine lv_iload hx hb dX7_ask_55 (lv_at hl 6 rfl) ?_
              refine lv_bipush (v := (21 : Int32)) hx hb dX7_ask_57 (by decide) ?_
              refine lv_aload_n hx hb dX7_ask_59 rfl (lv_at hl 0 rfl) ?_
              refine tget hx hb hts hown hE hI 1 (by decide) q2101 rfl dX7_ask_60 ?_
              refine lv_iconst (v := (4 : Int32)) hx hb dX7_ask_63 (by decide) ?_
              refine taldc hx hb hE hI 1 781 4 rfl (by decide) (by decide) dX7_ask_64 ?_
              refine lv_imul hx hb dX7_ask_65 ?_
              refine lv_icmp_ge (tgt := 106) hx hb dX7_ask_66 (by decide) (fun hc => ?_) (fun hc => ?_)
              · replace hf := ipos hc hf
                exact hq _ (Option.some.inj hf).symm H locs ls hI (lv_sub hl [0, 1, 2, 3, 4, 5] rfl)
              · replace hf := ineg hc hf
                refine lv_iload hx hb dX7_ask_69 (lv_at hl 5 rfl) ?_
                refine lv_aload_n hx hb dX7_ask_71 rfl (lv_at hl 0 rfl) ?_
                refine tget hx hb hts hown hE hI 20 (by decide) q2120 rfl dX7_ask_72 ?_
                refine lv_iload hx hb dX7_ask_75 (lv_at hl 6 rfl) ?_
                obtain ⟨x77, ex77, hf⟩ := obd hf
                refine tzld hx hb hE hI 7 126 rfl ex77 dX7_ask_77 ?_
                refine lv_if_eq (tgt := 96) hx hb dX7_ask_78 (by decide) (fun hc => ?_) (fun hc => ?_)
                · replace hf := ipos hc hf
                  refine lv_iconst (v := (0 : Int32)) hx hb dX7_ask_96 (by decide) ?_
                  refine lv_iadd hx hb dX7_ask_97 ?_
                  obtain ⟨v98, ev98, hf⟩ := obd hf
                  refine nmI ev98 ?_
                  refine lv_istore (lv' := [(5, .int v98), (0, .ref o), (1, .int c1), (2, .int c2), (3, .int c3), (4, .int c4), (6, .int w55.2)]) hx hb dX7_ask_98 hl (by decide) rfl (fun ls hl => ?_)
                  obtain ⟨v100, ev100, hf⟩ := obd hf
                  refine lv_iinc (v := v100) (lv' := [(6, .int v100), (5, .int v98), (0, .ref o), (1, .int c1), (2, .int c2), (3, .int c3), (4, .int c4)]) hx hb dX7_ask_100 hl (k := 6) rfl (iiE ev100 (by decide)) (by decide) rfl (fun ls hl => ?_)
                  refine lv_goto (tgt := 55) hx hb dX7_ask_103 (by decide) ?_
                  exact hk _ (Option.some.inj hf).symm H locs ls hI (lv_sub hl [2, 3, 4, 5, 6, 1, 0] rfl)
                · replace hf := ineg hc hf
                  refine lv_aload_n hx hb dX7_ask_81 rfl (lv_at hl 0 rfl) ?_
                  refine lv_iload hx hb dX7_ask_82 (lv_at hl 6 rfl) ?_
                  refine lv_iload hx hb dX7_ask_84 (lv_at hl 4 rfl) ?_
                  obtain ⟨x86, ex86, hf⟩ := obd hf
                  refine tcallI (rest := [.int w55.1]) hx hb hts hown hE hz hI hml hl.1 (mX7_isRead τ w55.2 c4 _ ex86) (cwX7_isRead hts ⟨Nat.le_of_ble_eq_true rfl, Nat.le_of_ble_eq_true rfl⟩) ⟨Nat.le_of_ble_eq_true rfl, Nat.le_of_ble_eq_true rfl⟩ rfl rfl (lv_room (Nat.le_of_ble_eq_true rfl)) dX7_ask_86 (fun H locs hI => ?_)
                  refine lv_if_eq (tgt := 96) hx hb dX7_ask_89 (by decide) (fun hc => ?_) (fun hc => ?_)
                  · replace hf := ipos hc hf
                    refine lv_iconst (v := (0 : Int32)) hx hb dX7_ask_96 (by decide) ?_
                    refine lv_iadd hx hb dX7_ask_97 ?_
                    obtain ⟨v98_6, ev98_6, hf⟩ := obd hf
                    refine nmI ev98_6 ?_
                    refine lv_istore (lv' := [(5, .int v98_6), (0, .ref o), (1, .int c1), (2, .int c2), (3, .int c3), (4, .int c4), (6, .int w55.2)]) hx hb dX7_ask_98 hl (by decide) rfl (fun ls hl => ?_)
                    obtain ⟨v100_7, ev100_7, hf⟩ := obd hf
                    refine lv_iinc (v := v100_7) (lv' := [(6, .int v100_7), (5, .int v98_6), (0, .ref o), (1, .int c1), (2, .int c2), (3, .int c3), (4, .int c4)]) hx hb dX7_ask_100 hl (k := 6) rfl (iiE ev100_7 (by decide)) (by decide) rfl (fun ls hl => ?_)
                    refine lv_goto (tgt := 55) hx hb dX7_ask_103 (by decide) ?_
                    exact hk _ (Option.some.inj hf).symm H locs ls hI (lv_sub hl [2, 3, 4, 5, 6, 1, 0] rfl)
                  · replace hf := ineg hc hf
                    refine lv_iconst (v := (1 : Int32)) hx hb dX7_ask_92 (by decide) ?_
                    refine lv_goto (tgt := 97) hx hb dX7_ask_93 (by decide) ?_
                    refine lv_iadd hx hb dX7_ask_97 ?_
                    obtain ⟨v98_8, ev98_8, hf⟩ := obd hf
                    refine nmI ev98_8 ?_
                    refine lv_istore (lv' := [(5, .int v98_8), (0, .ref o), (1, .int c1), (2, .int c2), (3, .int c3), (4, .int c4), (6, .int w55.2)]) hx hb dX7_ask_98 hl (by decide) rfl (fun ls hl => ?_)
                    obtain ⟨v100_9, ev100_9, hf⟩ := obd hf
                    refine lv_iinc (v := v100_9) (lv' := [(6, .int v100_9), (5, .int v98_8), (0, .ref o), (1, .int c1), (2, .int c2), (3, .int c3), (4, .int c4)]) hx hb dX7_ask_100 hl (k := 6) rfl (iiE ev100_9 (by decide)) (by decide) rfl (fun ls hl => ?_)
                    refine lv_goto (tgt := 55) hx hb dX7_ask_103 (by decide) ?_
                    exact hk _ (Option.some.inj hf).symm H locs ls hI (lv_sub hl [2, 3, 4, 5, 6, 1, 0] rfl)
            refine loopO_W (Wat := fun w55 => ∀ (H : Heap) (locs : List Loc) (ls : Array Slot), IT D cI cZ o s H locs τ → lv_has ls 7 [(0, .ref o), (1, .int c1), (2, .int w37.1), (3, .int w37.2.1), (4, .int w37.2.2), (5, .int w55.1), (6, .int w55.2)] → W p l e ({ frames := 5, cells := 0, slots := 0, locals := 133 } : Room) s m args below meth c H locs 0 0 Q (F0 m 55 ls [])) (Wex := fun ex_ => ∀ (H : Heap) (locs : List Loc) (ls : Array Slot), IT D cI cZ o s H locs τ → lv_has ls 7 [(0, .ref o), (1, .int c1), (2, .int w37.1), (3, .int w37.2.1), (4, .int w37.2.2), (5, .int ex_)] → W p l e ({ frames := 5, cells := 0, slots := 0, locals := 133 } : Room) s m args below meth c H locs 0 0 Q (F0 m 106 ls [])) (hs55 τ c1 w37.1 w37.2.1 w37.2.2) FU _ e55 he55 ?_ H locs ls hI (lv_sub hl [2, 3, 4, 5, 6, 1, 0] rfl)
            · skip
              intro H locs ls hI hl
              refine lv_iload hx hb dX7_ask_106 (lv_at hl 5 rfl) ?_
              refine lv_iload_n hx hb dX7_ask_108 rfl (lv_at hl 1 rfl) ?_
              refine lv_iload hx hb dX7_ask_109 (lv_at hl 5 rfl) ?_
              refine lv_isub hx hb dX7_ask_111 ?_
              obtain ⟨x112, ex112, hf⟩ := obd hf
              refine tcallS (rest := []) hx hb hts hown hml hl.1 (mX7_greater e55 (c1 - e55) _ ex112) (cwX7_greater hts ⟨Nat.le_of_ble_eq_true rfl, Nat.le_of_ble_eq_true rfl⟩) ⟨Nat.le_of_ble_eq_true rfl, Nat.le_of_ble_eq_true rfl⟩ rfl rfl (lv_room (Nat.le_of_ble_eq_true rfl)) dX7_ask_112 ?_
              refine lv_iload_n hx hb dX7_ask_115 rfl (lv_at hl 3 rfl) ?_
              refine lv_icmp_lt (tgt := 122) hx hb dX7_ask_116 (by decide) (fun hc => ?_) (fun hc => ?_)
              · replace hf := ipos hc hf
                refine lv_iload hx hb dX7_ask_122 (lv_at hl 5 rfl) ?_
                refine lv_iload_n hx hb dX7_ask_124 rfl (lv_at hl 1 rfl) ?_
                refine lv_iload hx hb dX7_ask_125 (lv_at hl 5 rfl) ?_
                refine lv_isub hx hb dX7_ask_127 ?_
                obtain ⟨x128, ex128, hf⟩ := obd hf
                refine tcallS (rest := []) hx hb hts hown hml hl.1 (mX7_greater e55 (c1 - e55) _ ex128) (cwX7_greater hts ⟨Nat.le_of_ble_eq_true rfl, Nat.le_of_ble_eq_true rfl⟩) ⟨Nat.le_of_ble_eq_true rfl, Nat.le_of_ble_eq_true rfl⟩ rfl rfl (lv_room (Nat.le_of_ble_eq_true rfl)) dX7_ask_128 ?_
                refine lv_istore_n (lv' := [(3, .int x128), (0, .ref o), (1, .int c1), (2, .int w37.1), (4, .int w37.2.2), (5, .int e55)]) hx hb dX7_ask_131 rfl hl (by decide) rfl (fun ls hl => ?_)
                refine lv_iload hx hb dX7_ask_132 (lv_at hl 4 rfl) ?_
                refine lv_istore_n (lv' := [(2, .int w37.2.2), (3, .int x128), (0, .ref o), (1, .int c1), (4, .int w37.2.2), (5, .int e55)]) hx hb dX7_ask_134 rfl hl (by decide) rfl (fun ls hl => ?_)
                obtain ⟨v135, ev135, hf⟩ := obd hf
                refine lv_iinc (v := v135) (lv' := [(4, .int v135), (2, .int w37.2.2), (3, .int x128), (0, .ref o), (1, .int c1), (5, .int e55)]) hx hb dX7_ask_135 hl (k := 4) rfl (iiE ev135 (by decide)) (by decide) rfl (fun ls hl => ?_)
                refine lv_goto (tgt := 37) hx hb dX7_ask_138 (by decide) ?_
                exact hk _ (Option.some.inj hf).symm H locs ls hI (lv_sub hl [3, 4, 1, 2, 0] rfl)
              · replace hf := ineg hc hf
                refine lv_goto (tgt := 135) hx hb dX7_ask_119 (by decide) ?_
                obtain ⟨v135_13, ev135_13, hf⟩ := obd hf
                refine lv_iinc (v := v135_13) (lv' := [(4, .int v135_13), (0, .ref o), (1, .int c1), (2, .int w37.1), (3, .int w37.2.1), (5, .int e55)]) hx hb dX7_ask_135 hl (k := 4) rfl (iiE ev135_13 (by decide)) (by decide) rfl (fun ls hl => ?_)
                refine lv_goto (tgt := 37) hx hb dX7_ask_138 (by decide) ?_
                exact hk _ (Option.some.inj hf).symm H locs ls hI (lv_sub hl [1, 2, 3, 4, 0] rfl)
      refine loopO_W (Wat := fun w37 => ∀ (H : Heap) (locs : List Loc) (ls : Array Slot), IT D cI cZ o s H locs t16 → lv_has ls 7 [(0, .ref o), (1, .int x1), (2, .int w37.1), (3, .int w37.2.1), (4, .int w37.2.2)] → W p l e ({ frames := 5, cells := 0, slots := 0, locals := 133 } : Room) s m args below meth c H locs 0 0 Q (F0 m 37 ls [])) (Wex := fun ex_ => ∀ (H : Heap) (locs : List Loc) (ls : Array Slot), IT D cI cZ o s H locs t16 → lv_has ls 7 [(2, .int ex_)] → W p l e ({ frames := 5, cells := 0, slots := 0, locals := 133 } : Room) s m args below meth c H locs 0 0 Q (F0 m 141 ls [])) (hs37 t16 x1) FU _ e37 he37 ?_ H locs ls hI (lv_sub hl [3, 4, 2, 1, 0] rfl)
      · skip
        intro H locs ls hI hl
        refine lv_iload_n hx hb dX7_ask_141 rfl (lv_at hl 0 rfl) ?_
        have hf := Prod.mk.inj (Option.some.inj hf)
        rw [hf.1]
        exact hret H locs 142 ls (hf.2 ▸ hI) dX7_ask_142
    · replace hf := ineg hc hf
      refine lv_iconst (v := (0 : Int32)) hx hb dX7_ask_26 (by decide) ?_
      have hf := Prod.mk.inj (Option.some.inj hf)
      rw [hf.1]
      exact hret H locs 27 ls (hf.2 ▸ hI) dX7_ask_27
  refine lv_aload_n hx hb dX7_ask_0 rfl (lv_at hl 0 rfl) ?_
  obtain ⟨x1, ex1, hf⟩ := obd hf
  refine tcallI (rest := []) hx hb hts hown hE hz hI hml hl.1 (mX7_heard τ _ _ ex1) (cwX7_heard hts ⟨Nat.le_of_ble_eq_true rfl, Nat.le_of_ble_eq_true rfl⟩) ⟨Nat.le_of_ble_eq_true rfl, Nat.le_of_ble_eq_true rfl⟩ rfl rfl (lv_room (Nat.le_of_ble_eq_true rfl)) dX7_ask_1 (fun H locs hI => ?_)
  refine lv_istore_n (lv' := [(1, .int x1.1), (0, .ref o)]) hx hb dX7_ask_4 rfl hl (by decide) rfl (fun ls hl => ?_)
  refine lv_aload_n hx hb dX7_ask_5 rfl (lv_at hl 1 rfl) ?_
  refine lv_iload_n hx hb dX7_ask_6 rfl (lv_at hl 0 rfl) ?_
  refine lv_iconst (v := (-1 : Int32)) hx hb dX7_ask_7 (by decide) ?_
  refine lv_icmp_ne (tgt := 15) hx hb dX7_ask_8 (by decide) (fun hc => ?_) (fun hc => ?_)
  · replace hf := ineg hc hf
    refine lv_iconst (v := (0 : Int32)) hx hb dX7_ask_15 (by decide) ?_
    exact hJ16 x1.2 x1.1 (0 : Int32) H locs ls hf hI  (lv_sub hl [1, 0] rfl)
  · replace hf := ipos hc hf
    refine lv_iconst (v := (1 : Int32)) hx hb dX7_ask_11 (by decide) ?_
    refine lv_goto (tgt := 16) hx hb dX7_ask_12 (by decide) ?_
    exact hJ16 x1.2 x1.1 (1 : Int32) H locs ls hf hI  (lv_sub hl [1, 0] rfl)


def X7_forged_J43 (τ : Mm) (a1 : Int32) (y0 : Int32) : Option (Int32 × Mm) :=
  (some (mup τ 10 0 y0)).bind fun t43 =>
  if (t43 10 0) = (0 : Int32) then
    (X7_of t43 a1 (0 : Int32)).bind fun x57 =>
    (X7_of t43 a1 (7 : Int32)).bind fun x64 =>
    (X7_upOf t43 x57 x64).bind fun x67 =>
    (X7_of t43 a1 (9 : Int32)).bind fun x74 =>
    if x67 = (x74 + (1 : Int32)) then
      some ((0 : Int32), t43)
    else
      some ((1 : Int32), t43)
  else
    some ((0 : Int32), t43)
def X7_forged_J14 (τ : Mm) (a1 : Int32) (y0 : Int32) : Option (Int32 × Mm) :=
  (some (mup τ 10 0 y0)).bind fun t14 =>
  if (t14 10 0) ≤ (0 : Int32) then
    (X7_of t14 a1 (9 : Int32)).bind fun x31 =>
    if x31 = (-1 : Int32) then
      X7_forged_J43 t14 a1 (2 : Int32)
    else
      X7_forged_J43 t14 a1 (0 : Int32)
  else
    some ((0 : Int32), t14)
def X7_forged (τ : Mm) (a1 : Int32) : Option (Int32 × Mm) :=
  (X7_isDeed τ a1).bind fun x3 =>
  if x3 = (0 : Int32) then
    X7_forged_J14 τ a1 (1 : Int32)
  else
    X7_forged_J14 τ a1 (0 : Int32)
set_option maxHeartbeats 4000000 in
theorem mX7_forged (τ : Mm) (a1 : Int32) (r : Int32) (τ' : Mm) (hf : X7_forged τ a1 = some (r, τ')) : TMi yX7_forged cX7_forged 2 (some .boolean) 4 108 (fun aK => [.int a1]) r τ τ' := by
  refine TMz.of (by decide) rfl (fun _ _ => Nat.le_of_ble_eq_true rfl) ?_
  intro p l e s m args below meth c D cI cZ o z aK aV Q ls hz hx hb hml hown hts hE hret hI hl
  obtain ⟨H, eH⟩ : ∃ H, H = s.heap := ⟨_, rfl⟩
  obtain ⟨locs, eL⟩ : ∃ L : List Loc, L = [] := ⟨_, rfl⟩
  rw [← eH, ← eL] at hI ⊢
  have hl : lv_has ls 2 [(0, .ref o), (1, .int a1)] := hl
  unfold X7_forged at hf
  have hJ43 : ∀ (τ : Mm) (y0 : Int32) (H : Heap) (locs : List Loc) (ls : Array Slot), X7_forged_J43 τ a1 y0 = some (r, τ') → IT D cI cZ o s H locs τ → lv_has ls 2 [(0, .ref o), (1, .int a1)] → W p l e ({ frames := 4, cells := 0, slots := 0, locals := 108 } : Room) s m args below meth c H locs 0 0 Q (F0 m 43 ls [.int y0, .ref o]) := by
    intro τ y0 H locs ls hf hI hl
    unfold X7_forged_J43 at hf
    obtain ⟨t43, et43, hf⟩ := obd hf
    refine tput hx hb hts hown hE hI 0 (by decide) q2100 rfl (tyX7_ok 0 (by decide)) rfl rfl rfl et43 dX7_forged_43 (fun H locs hI => ?_)
    refine lv_aload_n hx hb dX7_forged_46 rfl (lv_at hl 0 rfl) ?_
    refine tget hx hb hts hown hE hI 0 (by decide) q2100 rfl dX7_forged_47 ?_
    refine lv_if_ne (tgt := 86) hx hb dX7_forged_50 (by decide) (fun hc => ?_) (fun hc => ?_)
    · replace hf := ineg hc hf
      refine lv_iconst (v := (0 : Int32)) hx hb dX7_forged_86 (by decide) ?_
      have hf := Prod.mk.inj (Option.some.inj hf)
      rw [hf.1]
      exact hret H locs 87 ls (hf.2 ▸ hI) (hf.1 ▸ (by decide)) dX7_forged_87
    · replace hf := ipos hc hf
      refine lv_aload_n hx hb dX7_forged_53 rfl (lv_at hl 0 rfl) ?_
      refine lv_aload_n hx hb dX7_forged_54 rfl (lv_at hl 0 rfl) ?_
      refine lv_iload_n hx hb dX7_forged_55 rfl (lv_at hl 1 rfl) ?_
      refine lv_iconst (v := (0 : Int32)) hx hb dX7_forged_56 (by decide) ?_
      obtain ⟨x57, ex57, hf⟩ := obd hf
      refine tcallI (rest := [.ref o]) hx hb hts hown hE hz hI hml hl.1 (mX7_of t43 a1 (0 : Int32) _ ex57) (cwX7_of hts ⟨Nat.le_of_ble_eq_true rfl, Nat.le_of_ble_eq_true rfl⟩) ⟨Nat.le_of_ble_eq_true rfl, Nat.le_of_ble_eq_true rfl⟩ rfl rfl (lv_room (Nat.le_of_ble_eq_true rfl)) dX7_forged_57 (fun H locs hI => ?_)
      refine lv_aload_n hx hb dX7_forged_60 rfl (lv_at hl 0 rfl) ?_
      refine lv_iload_n hx hb dX7_forged_61 rfl (lv_at hl 1 rfl) ?_
      refine lv_bipush (v := (7 : Int32)) hx hb dX7_forged_62 (by decide) ?_
      obtain ⟨x64, ex64, hf⟩ := obd hf
      refine tcallI (rest := [.int x57, .ref o]) hx hb hts hown hE hz hI hml hl.1 (mX7_of t43 a1 (7 : Int32) _ ex64) (cwX7_of hts ⟨Nat.le_of_ble_eq_true rfl, Nat.le_of_ble_eq_true rfl⟩) ⟨Nat.le_of_ble_eq_true rfl, Nat.le_of_ble_eq_true rfl⟩ rfl rfl (lv_room (Nat.le_of_ble_eq_true rfl)) dX7_forged_64 (fun H locs hI => ?_)
      obtain ⟨x67, ex67, hf⟩ := obd hf
      refine tcallI (rest := []) hx hb hts hown hE hz hI hml hl.1 (mX7_upOf t43 x57 x64 _ ex67) (cwX7_upOf hts ⟨Nat.le_of_ble_eq_true rfl, Nat.le_of_ble_eq_true rfl⟩) ⟨Nat.le_of_ble_eq_true rfl, Nat.le_of_ble_eq_true rfl⟩ rfl rfl (lv_room (Nat.le_of_ble_eq_true rfl)) dX7_forged_67 (fun H locs hI => ?_)
      refine lv_aload_n hx hb dX7_forged_70 rfl (lv_at hl 0 rfl) ?_
      refine lv_iload_n hx hb dX7_forged_71 rfl (lv_at hl 1 rfl) ?_
      refine lv_bipush (v := (9 : Int32)) hx hb dX7_forged_72 (by decide) ?_
      obtain ⟨x74, ex74, hf⟩ := obd hf
      refine tcallI (rest := [.int x67]) hx hb hts hown hE hz hI hml hl.1 (mX7_of t43 a1 (9 : Int32) _ ex74) (cwX7_of hts ⟨Nat.le_of_ble_eq_true rfl, Nat.le_of_ble_eq_true rfl⟩) ⟨Nat.le_of_ble_eq_true rfl, Nat.le_of_ble_eq_true rfl⟩ rfl rfl (lv_room (Nat.le_of_ble_eq_true rfl)) dX7_forged_74 (fun H locs hI => ?_)
      refine lv_iconst (v := (1 : Int32)) hx hb dX7_forged_77 (by decide) ?_
      refine lv_iadd hx hb dX7_forged_78 ?_
      refine lv_icmp_eq (tgt := 86) hx hb dX7_forged_79 (by decide) (fun hc => ?_) (fun hc => ?_)
      · replace hf := ipos hc hf
        refine lv_iconst (v := (0 : Int32)) hx hb dX7_forged_86 (by decide) ?_
        have hf := Prod.mk.inj (Option.some.inj hf)
        rw [hf.1]
        exact hret H locs 87 ls (hf.2 ▸ hI) (hf.1 ▸ (by decide)) dX7_forged_87
      · replace hf := ineg hc hf
        refine lv_iconst (v := (1 : Int32)) hx hb dX7_forged_82 (by decide) ?_
        refine lv_goto (tgt := 87) hx hb dX7_forged_83 (by decide) ?_
        have hf := Prod.mk.inj (Option.some.inj hf)
        rw [hf.1]
        exact hret H locs 87 ls (hf.2 ▸ hI) (hf.1 ▸ (by decide)) dX7_forged_87
  have hJ14 : ∀ (τ : Mm) (y0 : Int32) (H : Heap) (locs : List Loc) (ls : Array Slot), X7_forged_J14 τ a1 y0 = some (r, τ') → IT D cI cZ o s H locs τ → lv_has ls 2 [(0, .ref o), (1, .int a1)] → W p l e ({ frames := 4, cells := 0, slots := 0, locals := 108 } : Room) s m args below meth c H locs 0 0 Q (F0 m 14 ls [.int y0, .ref o]) := by
    intro τ y0 H locs ls hf hI hl
    unfold X7_forged_J14 at hf
    obtain ⟨t14, et14, hf⟩ := obd hf
    refine tput hx hb hts hown hE hI 0 (by decide) q2100 rfl (tyX7_ok 0 (by decide)) rfl rfl rfl et14 dX7_forged_14 (fun H locs hI => ?_)
    refine lv_aload_n hx hb dX7_forged_17 rfl (lv_at hl 0 rfl) ?_
    refine tget hx hb hts hown hE hI 0 (by decide) q2100 rfl dX7_forged_18 ?_
    refine lv_if_le (tgt := 26) hx hb dX7_forged_21 (by decide) (fun hc => ?_) (fun hc => ?_)
    · replace hf := ipos hc hf
      refine lv_aload_n hx hb dX7_forged_26 rfl (lv_at hl 0 rfl) ?_
      refine lv_aload_n hx hb dX7_forged_27 rfl (lv_at hl 0 rfl) ?_
      refine lv_iload_n hx hb dX7_forged_28 rfl (lv_at hl 1 rfl) ?_
      refine lv_bipush (v := (9 : Int32)) hx hb dX7_forged_29 (by decide) ?_
      obtain ⟨x31, ex31, hf⟩ := obd hf
      refine tcallI (rest := [.ref o]) hx hb hts hown hE hz hI hml hl.1 (mX7_of t14 a1 (9 : Int32) _ ex31) (cwX7_of hts ⟨Nat.le_of_ble_eq_true rfl, Nat.le_of_ble_eq_true rfl⟩) ⟨Nat.le_of_ble_eq_true rfl, Nat.le_of_ble_eq_true rfl⟩ rfl rfl (lv_room (Nat.le_of_ble_eq_true rfl)) dX7_forged_31 (fun H locs hI => ?_)
      refine lv_iconst (v := (-1 : Int32)) hx hb dX7_forged_34 (by decide) ?_
      refine lv_icmp_ne (tgt := 42) hx hb dX7_forged_35 (by decide) (fun hc => ?_) (fun hc => ?_)
      · replace hf := ineg hc hf
        refine lv_iconst (v := (0 : Int32)) hx hb dX7_forged_42 (by decide) ?_
        exact hJ43 t14 (0 : Int32) H locs ls hf hI  (lv_sub hl [0, 1] rfl)
      · replace hf := ipos hc hf
        refine lv_iconst (v := (2 : Int32)) hx hb dX7_forged_38 (by decide) ?_
        refine lv_goto (tgt := 43) hx hb dX7_forged_39 (by decide) ?_
        exact hJ43 t14 (2 : Int32) H locs ls hf hI  (lv_sub hl [0, 1] rfl)
    · replace hf := ineg hc hf
      refine lv_iconst (v := (0 : Int32)) hx hb dX7_forged_24 (by decide) ?_
      have hf := Prod.mk.inj (Option.some.inj hf)
      rw [hf.1]
      exact hret H locs 25 ls (hf.2 ▸ hI) (hf.1 ▸ (by decide)) dX7_forged_25
  refine lv_aload_n hx hb dX7_forged_0 rfl (lv_at hl 0 rfl) ?_
  refine lv_aload_n hx hb dX7_forged_1 rfl (lv_at hl 0 rfl) ?_
  refine lv_iload_n hx hb dX7_forged_2 rfl (lv_at hl 1 rfl) ?_
  obtain ⟨x3, ex3, hf⟩ := obd hf
  refine tcallI (rest := [.ref o]) hx hb hts hown hE hz hI hml hl.1 (mX7_isDeed τ a1 _ ex3) (cwX7_isDeed hts ⟨Nat.le_of_ble_eq_true rfl, Nat.le_of_ble_eq_true rfl⟩) ⟨Nat.le_of_ble_eq_true rfl, Nat.le_of_ble_eq_true rfl⟩ rfl rfl (lv_room (Nat.le_of_ble_eq_true rfl)) dX7_forged_3 (fun H locs hI => ?_)
  refine lv_if_ne (tgt := 13) hx hb dX7_forged_6 (by decide) (fun hc => ?_) (fun hc => ?_)
  · replace hf := ineg hc hf
    refine lv_iconst (v := (0 : Int32)) hx hb dX7_forged_13 (by decide) ?_
    exact hJ14 τ (0 : Int32) H locs ls hf hI  (lv_sub hl [0, 1] rfl)
  · replace hf := ipos hc hf
    refine lv_iconst (v := (1 : Int32)) hx hb dX7_forged_9 (by decide) ?_
    refine lv_goto (tgt := 14) hx hb dX7_forged_10 (by decide) ?_
    exact hJ14 τ (1 : Int32) H locs ls hf hI  (lv_sub hl [0, 1] rfl)


def X7_bits_L4 (c0 : Int32) (w4 : Int32 × Int32) : Option ((Int32 × Int32) ⊕ (Int32)) :=
  if (31 : Int32) ≤ w4.2 then
    some (.inr w4.1)
  else
    (some (w4.1 + ((c0 >>> (w4.2 &&& (31 : Int32))) &&& (1 : Int32)))).bind fun v17 =>
    (some (w4.2 + (1 : Int32))).bind fun v18 =>
    some (.inl (v17, v18))
def X7_bits (a0 : Int32) : Option (Int32) :=
  (loopO (X7_bits_L4 a0) FU ((0 : Int32), (0 : Int32))).bind fun e4 =>
  some e4
set_option maxHeartbeats 4000000 in
theorem mX7_bits (a0 : Int32) (r : Int32) (hf : X7_bits a0 = some r) : SMi yX7_bits cX7_bits 3 (some .int) 1 40 [.int a0] r := by
  refine SMi.of (by decide) (Nat.le_of_ble_eq_true rfl) ?_
  intro p l e s m args below meth c Q ls hx hb hml hown hts hret hl
  have hl : lv_has ls 3 [(0, .int a0)] := hl
  unfold X7_bits at hf
  refine lv_iconst (v := (0 : Int32)) hx hb dX7_bits_0 (by decide) ?_
  refine lv_istore_n (lv' := [(1, .int (0 : Int32)), (0, .int a0)]) hx hb dX7_bits_1 rfl hl (by decide) rfl (fun ls hl => ?_)
  refine lv_iconst (v := (0 : Int32)) hx hb dX7_bits_2 (by decide) ?_
  refine lv_istore_n (lv' := [(2, .int (0 : Int32)), (1, .int (0 : Int32)), (0, .int a0)]) hx hb dX7_bits_3 rfl hl (by decide) rfl (fun ls hl => ?_)
  obtain ⟨e4, he4, hf⟩ := obd hf
  have hs4 : ∀ (c0 : Int32), ∀ (w4 : Int32 × Int32) (o4 : (Int32 × Int32) ⊕ (Int32)), X7_bits_L4 c0 w4 = some o4 → (∀ wx_, o4 = .inl wx_ → ∀ (ls : Array Slot), lv_has ls 3 [(0, .int c0), (1, .int wx_.1), (2, .int wx_.2)] → W p l e ({ frames := 1, cells := 0, slots := 0, locals := 40 } : Room) s m args below meth c s.heap [] 0 0 Q (F0 m 4 ls [])) → (∀ ex_, o4 = .inr ex_ → ∀ (ls : Array Slot), lv_has ls 3 [(1, .int ex_)] → W p l e ({ frames := 1, cells := 0, slots := 0, locals := 40 } : Room) s m args below meth c s.heap [] 0 0 Q (F0 m 24 ls [])) → ∀ (ls : Array Slot), lv_has ls 3 [(0, .int c0), (1, .int w4.1), (2, .int w4.2)] → W p l e ({ frames := 1, cells := 0, slots := 0, locals := 40 } : Room) s m args below meth c s.heap [] 0 0 Q (F0 m 4 ls []) := by
    intro c0 w4 o4 hf hk hq ls hl
    unfold X7_bits_L4 at hf
    refine lv_iload_n hx hb dX7_bits_4 rfl (lv_at hl 2 rfl) ?_
    refine lv_bipush (v := (31 : Int32)) hx hb dX7_bits_5 (by decide) ?_
    refine lv_icmp_ge (tgt := 24) hx hb dX7_bits_7 (by decide) (fun hc => ?_) (fun hc => ?_)
    · replace hf := ipos hc hf
      exact hq _ (Option.some.inj hf).symm ls (lv_sub hl [1] rfl)
    · replace hf := ineg hc hf
      refine lv_iload_n hx hb dX7_bits_10 rfl (lv_at hl 1 rfl) ?_
      refine lv_iload_n hx hb dX7_bits_11 rfl (lv_at hl 0 rfl) ?_
      refine lv_iload_n hx hb dX7_bits_12 rfl (lv_at hl 2 rfl) ?_
      refine lv_ishr hx hb dX7_bits_13 ?_
      refine lv_iconst (v := (1 : Int32)) hx hb dX7_bits_14 (by decide) ?_
      refine lv_iand hx hb dX7_bits_15 ?_
      refine lv_iadd hx hb dX7_bits_16 ?_
      obtain ⟨v17, ev17, hf⟩ := obd hf
      refine nmI ev17 ?_
      refine lv_istore_n (lv' := [(1, .int v17), (0, .int c0), (2, .int w4.2)]) hx hb dX7_bits_17 rfl hl (by decide) rfl (fun ls hl => ?_)
      obtain ⟨v18, ev18, hf⟩ := obd hf
      refine lv_iinc (v := v18) (lv' := [(2, .int v18), (1, .int v17), (0, .int c0)]) hx hb dX7_bits_18 hl (k := 2) rfl (iiE ev18 (by decide)) (by decide) rfl (fun ls hl => ?_)
      refine lv_goto (tgt := 4) hx hb dX7_bits_21 (by decide) ?_
      exact hk _ (Option.some.inj hf).symm ls (lv_sub hl [2, 1, 0] rfl)
  refine loopO_W (Wat := fun w4 => ∀ (ls : Array Slot), lv_has ls 3 [(0, .int a0), (1, .int w4.1), (2, .int w4.2)] → W p l e ({ frames := 1, cells := 0, slots := 0, locals := 40 } : Room) s m args below meth c s.heap [] 0 0 Q (F0 m 4 ls [])) (Wex := fun ex_ => ∀ (ls : Array Slot), lv_has ls 3 [(1, .int ex_)] → W p l e ({ frames := 1, cells := 0, slots := 0, locals := 40 } : Room) s m args below meth c s.heap [] 0 0 Q (F0 m 24 ls [])) (hs4 a0) FU _ e4 he4 ?_ ls (lv_sub hl [2, 1, 0] rfl)
  · skip
    intro ls hl
    refine lv_iload_n hx hb dX7_bits_24 rfl (lv_at hl 0 rfl) ?_
    have hf := Option.some.inj hf
    rw [hf]
    exact hret 25 ls dX7_bits_25
theorem cwX7_bits {R : Room} {s : State} {args : Array Value} {fr lo : Nat} (hts : ∀ w ∈ lw_all, w.before args s = true) (hR : fr + 1 ≤ R.frames ∧ 8 + (3 + 11) + lo ≤ R.locals) : CallB R s args RX7 369 yX7_bits cX7_bits 3 (some .int) (ws_ yX7_bits cX7_bits 3 (some .int)) ({ frames := fr, cells := 0, slots := 0, locals := lo }) 0 0 1 ∧ (Cond.static yX7_bits).before args s = true :=
  va_cwS 1 hts (lw_S q2609 q2610 q143 q2611) rfl rfl rfl (by decide +kernel) hR

def X7_areApart_L6 (τ : Mm) (c1 : Int32) (c2 : Int32) (c3 : Int32) (w6 : Int32 × Int32) : Option ((Int32 × Int32) ⊕ (Int32)) :=
  if (4 : Int32) ≤ w6.2 then
    some (.inr w6.1)
  else
    if w6.1 = (0 : Int32) then
      (X7_isOf c1 w6.2).bind fun x20 =>
      if x20 = (0 : Int32) then
        (some (w6.2 + (1 : Int32))).bind fun v50_3 =>
        some (.inl ((0 : Int32), v50_3))
      else
        (X7_soaked τ c2 w6.2).bind fun x30 =>
        (X7_soaked τ c3 w6.2).bind fun x37 =>
        if x30 = x37 then
          (some (w6.2 + (1 : Int32))).bind fun v50_6 =>
          some (.inl ((0 : Int32), v50_6))
        else
          (some (w6.2 + (1 : Int32))).bind fun v50_7 =>
          some (.inl ((1 : Int32), v50_7))
    else
      (some (w6.2 + (1 : Int32))).bind fun v50 =>
      some (.inl ((1 : Int32), v50))
def X7_areApart (τ : Mm) (a1 : Int32) (a2 : Int32) (a3 : Int32) : Option (Int32) :=
  (loopO (X7_areApart_L6 τ a1 a2 a3) FU ((0 : Int32), (0 : Int32))).bind fun e6 =>
  (zb e6).bind fun _ =>
  some e6
set_option maxHeartbeats 4000000 in
theorem mX7_areApart (τ : Mm) (a1 : Int32) (a2 : Int32) (a3 : Int32) (r : Int32) (hf : X7_areApart τ a1 a2 a3 = some r) : TMi yX7_areApart cX7_areApart 6 (some .boolean) 3 84 (fun aK => [.int a1, .int a2, .int a3]) r τ τ := by
  refine TMz.of (by decide) rfl (fun _ _ => Nat.le_of_ble_eq_true rfl) ?_
  intro p l e s m args below meth c D cI cZ o z aK aV Q ls hz hx hb hml hown hts hE hret hI hl
  obtain ⟨H, eH⟩ : ∃ H, H = s.heap := ⟨_, rfl⟩
  obtain ⟨locs, eL⟩ : ∃ L : List Loc, L = [] := ⟨_, rfl⟩
  rw [← eH, ← eL] at hI ⊢
  have hl : lv_has ls 6 [(0, .ref o), (1, .int a1), (2, .int a2), (3, .int a3)] := hl
  unfold X7_areApart at hf
  refine lv_iconst (v := (0 : Int32)) hx hb dX7_areApart_0 (by decide) ?_
  refine lv_istore (lv' := [(4, .int (0 : Int32)), (0, .ref o), (1, .int a1), (2, .int a2), (3, .int a3)]) hx hb dX7_areApart_1 hl (by decide) rfl (fun ls hl => ?_)
  refine lv_iconst (v := (0 : Int32)) hx hb dX7_areApart_3 (by decide) ?_
  refine lv_istore (lv' := [(5, .int (0 : Int32)), (4, .int (0 : Int32)), (0, .ref o), (1, .int a1), (2, .int a2), (3, .int a3)]) hx hb dX7_areApart_4 hl (by decide) rfl (fun ls hl => ?_)
  obtain ⟨e6, he6, hf⟩ := obd hf
  have hs6 : ∀ (c1 : Int32) (c2 : Int32) (c3 : Int32), ∀ (w6 : Int32 × Int32) (o6 : (Int32 × Int32) ⊕ (Int32)), X7_areApart_L6 τ c1 c2 c3 w6 = some o6 → (∀ wx_, o6 = .inl wx_ → ∀ (H : Heap) (locs : List Loc) (ls : Array Slot), IT D cI cZ o s H locs τ → lv_has ls 6 [(0, .ref o), (1, .int c1), (2, .int c2), (3, .int c3), (4, .int wx_.1), (5, .int wx_.2)] → W p l e ({ frames := 3, cells := 0, slots := 0, locals := 84 } : Room) s m args below meth c H locs 0 0 Q (F0 m 6 ls [])) → (∀ ex_, o6 = .inr ex_ → ∀ (H : Heap) (locs : List Loc) (ls : Array Slot), IT D cI cZ o s H locs τ → lv_has ls 6 [(4, .int ex_)] → W p l e ({ frames := 3, cells := 0, slots := 0, locals := 84 } : Room) s m args below meth c H locs 0 0 Q (F0 m 56 ls [])) → ∀ (H : Heap) (locs : List Loc) (ls : Array Slot), IT D cI cZ o s H locs τ → lv_has ls 6 [(0, .ref o), (1, .int c1), (2, .int c2), (3, .int c3), (4, .int w6.1), (5, .int w6.2)] → W p l e ({ frames := 3, cells := 0, slots := 0, locals := 84 } : Room) s m args below meth c H locs 0 0 Q (F0 m 6 ls []) := by
    intro c1 c2 c3 w6 o6 hf hk hq H locs ls hI hl
    unfold X7_areApart_L6 at hf
    refine lv_iload hx hb dX7_areApart_6 (lv_at hl 5 rfl) ?_
    refine lv_iconst (v := (4 : Int32)) hx hb dX7_areApart_8 (by decide) ?_
    refine lv_icmp_ge (tgt := 56) hx hb dX7_areApart_9 (by decide) (fun hc => ?_) (fun hc => ?_)
    · replace hf := ipos hc hf
      exact hq _ (Option.some.inj hf).symm H locs ls hI (lv_sub hl [4] rfl)
    · replace hf := ineg hc hf
      refine lv_iload hx hb dX7_areApart_12 (lv_at hl 4 rfl) ?_
      refine lv_if_ne (tgt := 43) hx hb dX7_areApart_14 (by decide) (fun hc => ?_) (fun hc => ?_)
      · replace hf := ineg hc hf
        refine lv_iconst (v := (1 : Int32)) hx hb dX7_areApart_43 (by decide) ?_
        refine lv_goto (tgt := 48) hx hb dX7_areApart_44 (by decide) ?_
        refine lv_istore (lv' := [(4, .int (1 : Int32)), (0, .ref o), (1, .int c1), (2, .int c2), (3, .int c3), (5, .int w6.2)]) hx hb dX7_areApart_48 hl (by decide) rfl (fun ls hl => ?_)
        obtain ⟨v50, ev50, hf⟩ := obd hf
        refine lv_iinc (v := v50) (lv' := [(5, .int v50), (4, .int (1 : Int32)), (0, .ref o), (1, .int c1), (2, .int c2), (3, .int c3)]) hx hb dX7_areApart_50 hl (k := 5) rfl (iiE ev50 (by decide)) (by decide) rfl (fun ls hl => ?_)
        refine lv_goto (tgt := 6) hx hb dX7_areApart_53 (by decide) ?_
        exact hk _ (Option.some.inj hf).symm H locs ls hI (lv_sub hl [2, 3, 4, 5, 1, 0] rfl)
      · replace hf := ipos hc hf
        refine lv_iload_n hx hb dX7_areApart_17 rfl (lv_at hl 1 rfl) ?_
        refine lv_iload hx hb dX7_areApart_18 (lv_at hl 5 rfl) ?_
        obtain ⟨x20, ex20, hf⟩ := obd hf
        refine tcallS (rest := []) hx hb hts hown hml hl.1 (mX7_isOf c1 w6.2 _ ex20) (cwX7_isOf hts ⟨Nat.le_of_ble_eq_true rfl, Nat.le_of_ble_eq_true rfl⟩) ⟨Nat.le_of_ble_eq_true rfl, Nat.le_of_ble_eq_true rfl⟩ rfl rfl (lv_room (Nat.le_of_ble_eq_true rfl)) dX7_areApart_20 ?_
        refine lv_if_eq (tgt := 47) hx hb dX7_areApart_23 (by decide) (fun hc => ?_) (fun hc => ?_)
        · replace hf := ipos hc hf
          refine lv_iconst (v := (0 : Int32)) hx hb dX7_areApart_47 (by decide) ?_
          refine lv_istore (lv' := [(4, .int (0 : Int32)), (0, .ref o), (1, .int c1), (2, .int c2), (3, .int c3), (5, .int w6.2)]) hx hb dX7_areApart_48 hl (by decide) rfl (fun ls hl => ?_)
          obtain ⟨v50_3, ev50_3, hf⟩ := obd hf
          refine lv_iinc (v := v50_3) (lv' := [(5, .int v50_3), (4, .int (0 : Int32)), (0, .ref o), (1, .int c1), (2, .int c2), (3, .int c3)]) hx hb dX7_areApart_50 hl (k := 5) rfl (iiE ev50_3 (by decide)) (by decide) rfl (fun ls hl => ?_)
          refine lv_goto (tgt := 6) hx hb dX7_areApart_53 (by decide) ?_
          exact hk _ (Option.some.inj hf).symm H locs ls hI (lv_sub hl [2, 3, 4, 5, 1, 0] rfl)
        · replace hf := ineg hc hf
          refine lv_aload_n hx hb dX7_areApart_26 rfl (lv_at hl 0 rfl) ?_
          refine lv_iload_n hx hb dX7_areApart_27 rfl (lv_at hl 2 rfl) ?_
          refine lv_iload hx hb dX7_areApart_28 (lv_at hl 5 rfl) ?_
          obtain ⟨x30, ex30, hf⟩ := obd hf
          refine tcallI (rest := []) hx hb hts hown hE hz hI hml hl.1 (mX7_soaked τ c2 w6.2 _ ex30) (cwX7_soaked hts ⟨Nat.le_of_ble_eq_true rfl, Nat.le_of_ble_eq_true rfl⟩) ⟨Nat.le_of_ble_eq_true rfl, Nat.le_of_ble_eq_true rfl⟩ rfl rfl (lv_room (Nat.le_of_ble_eq_true rfl)) dX7_areApart_30 (fun H locs hI => ?_)
          refine lv_aload_n hx hb dX7_areApart_33 rfl (lv_at hl 0 rfl) ?_
          refine lv_iload_n hx hb dX7_areApart_34 rfl (lv_at hl 3 rfl) ?_
          refine lv_iload hx hb dX7_areApart_35 (lv_at hl 5 rfl) ?_
          obtain ⟨x37, ex37, hf⟩ := obd hf
          refine tcallI (rest := [.int x30]) hx hb hts hown hE hz hI hml hl.1 (mX7_soaked τ c3 w6.2 _ ex37) (cwX7_soaked hts ⟨Nat.le_of_ble_eq_true rfl, Nat.le_of_ble_eq_true rfl⟩) ⟨Nat.le_of_ble_eq_true rfl, Nat.le_of_ble_eq_true rfl⟩ rfl rfl (lv_room (Nat.le_of_ble_eq_true rfl)) dX7_areApart_37 (fun H locs hI => ?_)
          refine lv_icmp_eq (tgt := 47) hx hb dX7_areApart_40 (by decide) (fun hc => ?_) (fun hc => ?_)
          · replace hf := ipos hc hf
            refine lv_iconst (v := (0 : Int32)) hx hb dX7_areApart_47 (by decide) ?_
            refine lv_istore (lv' := [(4, .int (0 : Int32)), (0, .ref o), (1, .int c1), (2, .int c2), (3, .int c3), (5, .int w6.2)]) hx hb dX7_areApart_48 hl (by decide) rfl (fun ls hl => ?_)
            obtain ⟨v50_6, ev50_6, hf⟩ := obd hf
            refine lv_iinc (v := v50_6) (lv' := [(5, .int v50_6), (4, .int (0 : Int32)), (0, .ref o), (1, .int c1), (2, .int c2), (3, .int c3)]) hx hb dX7_areApart_50 hl (k := 5) rfl (iiE ev50_6 (by decide)) (by decide) rfl (fun ls hl => ?_)
            refine lv_goto (tgt := 6) hx hb dX7_areApart_53 (by decide) ?_
            exact hk _ (Option.some.inj hf).symm H locs ls hI (lv_sub hl [2, 3, 4, 5, 1, 0] rfl)
          · replace hf := ineg hc hf
            refine lv_iconst (v := (1 : Int32)) hx hb dX7_areApart_43 (by decide) ?_
            refine lv_goto (tgt := 48) hx hb dX7_areApart_44 (by decide) ?_
            refine lv_istore (lv' := [(4, .int (1 : Int32)), (0, .ref o), (1, .int c1), (2, .int c2), (3, .int c3), (5, .int w6.2)]) hx hb dX7_areApart_48 hl (by decide) rfl (fun ls hl => ?_)
            obtain ⟨v50_7, ev50_7, hf⟩ := obd hf
            refine lv_iinc (v := v50_7) (lv' := [(5, .int v50_7), (4, .int (1 : Int32)), (0, .ref o), (1, .int c1), (2, .int c2), (3, .int c3)]) hx hb dX7_areApart_50 hl (k := 5) rfl (iiE ev50_7 (by decide)) (by decide) rfl (fun ls hl => ?_)
            refine lv_goto (tgt := 6) hx hb dX7_areApart_53 (by decide) ?_
            exact hk _ (Option.some.inj hf).symm H locs ls hI (lv_sub hl [2, 3, 4, 5, 1, 0] rfl)
  refine loopO_W (Wat := fun w6 => ∀ (H : Heap) (locs : List Loc) (ls : Array Slot), IT D cI cZ o s H locs τ → lv_has ls 6 [(0, .ref o), (1, .int a1), (2, .int a2), (3, .int a3), (4, .int w6.1), (5, .int w6.2)] → W p l e ({ frames := 3, cells := 0, slots := 0, locals := 84 } : Room) s m args below meth c H locs 0 0 Q (F0 m 6 ls [])) (Wex := fun ex_ => ∀ (H : Heap) (locs : List Loc) (ls : Array Slot), IT D cI cZ o s H locs τ → lv_has ls 6 [(4, .int ex_)] → W p l e ({ frames := 3, cells := 0, slots := 0, locals := 84 } : Room) s m args below meth c H locs 0 0 Q (F0 m 56 ls [])) (hs6 a1 a2 a3) FU _ e6 he6 ?_ H locs ls hI (lv_sub hl [2, 3, 4, 5, 1, 0] rfl)
  · skip
    intro H locs ls hI hl
    refine lv_iload hx hb dX7_areApart_56 (lv_at hl 0 rfl) ?_
    obtain ⟨_, eb58, hf⟩ := obd hf
    have hf := Option.some.inj hf
    rw [hf]
    exact hret H locs 58 ls hI (hf ▸ (zb_e eb58).2) dX7_areApart_58
theorem cwX7_areApart {R : Room} {s : State} {args : Array Value} {fr lo : Nat} (hts : ∀ w ∈ lw_all, w.before args s = true) (hR : fr + 1 ≤ R.frames ∧ 8 + (6 + 11) + lo ≤ R.locals) : CallW R s args RX7 RX7 372 yX7_areApart cX7_areApart 6 (some .boolean) (ws_ yX7_areApart cX7_areApart 6 (some .boolean)) ({ frames := fr, cells := 0, slots := 0, locals := lo }) 0 0 3 :=
  cwV 3 hts (lw_V q2612 q2614 qs123 q143 q2615) rfl rfl rfl (by decide +kernel) hR

def X7_apart_L61 (τ : Mm) (c1 : Int32) (c2 : Int32) (c4 : Int32) (w61 : Int32 × Int32) : Option ((Int32 × Int32) ⊕ (Int32)) :=
  if (τ 0 4) ≤ w61.2 then
    some (.inr w61.1)
  else
    if w61.1 = (0 : Int32) then
      some (.inr w61.1)
    else
      (X7_ofInk τ c4 (2 : Int32)).bind fun x80 =>
      (X7_ofInk τ w61.2 (2 : Int32)).bind fun x87 =>
      if x80 = x87 then
        (some (w61.2 + (1 : Int32))).bind fun v111 =>
        some (.inl ((1 : Int32), v111))
      else
        (X7_areApart τ c2 c4 w61.2).bind fun x99 =>
        if x99 = (0 : Int32) then
          (some (w61.2 + (1 : Int32))).bind fun v111_7 =>
          some (.inl ((0 : Int32), v111_7))
        else
          (some (w61.2 + (1 : Int32))).bind fun v111_8 =>
          some (.inl ((1 : Int32), v111_8))
def X7_apart_L40 (τ : Mm) (c1 : Int32) (c2 : Int32) (w40 : Int32 × Int32) : Option ((Int32 × Int32) ⊕ (Int32)) :=
  if (τ 0 4) ≤ w40.2 then
    some (.inr w40.1)
  else
    if w40.1 = (0 : Int32) then
      some (.inr w40.1)
    else
      (some (w40.2 + (1 : Int32))).bind fun v59 =>
      (loopO (X7_apart_L61 τ c1 c2 w40.2) FU (w40.1, v59)).bind fun e61 =>
      (some (w40.2 + (1 : Int32))).bind fun v117 =>
      some (.inl (e61, v117))
def X7_apart_J9_36 (τ : Mm) (x1 : Int32) (x2 : Int32) (y0 : Int32) : Option ((Int32 × Int32) ⊕ (Int32)) :=
  (loopO (X7_apart_L40 τ x1 x2) FU (y0, (0 : Int32))).bind fun e40 =>
  if e40 = (0 : Int32) then
    (some (x2 + (1 : Int32))).bind fun v129 =>
    some (.inl (x1, v129))
  else
    (some (x2 + (1 : Int32))).bind fun v129_11 =>
    some (.inl (x2, v129_11))
def X7_apart_J9_31 (τ : Mm) (x1 : Int32) (x2 : Int32) : Option ((Int32 × Int32) ⊕ (Int32)) :=
  X7_apart_J9_36 τ x1 x2 (1 : Int32)
def X7_apart_L9 (τ : Mm) (w9 : Int32 × Int32) : Option ((Int32 × Int32) ⊕ (Int32)) :=
  if (16 : Int32) ≤ w9.2 then
    some (.inr w9.1)
  else
    if w9.1 = (-1 : Int32) then
      X7_apart_J9_31 τ w9.1 w9.2
    else
      (X7_bits w9.2).bind fun x21 =>
      (X7_bits w9.1).bind fun x25 =>
      if x25 ≤ x21 then
        X7_apart_J9_36 τ w9.1 w9.2 (0 : Int32)
      else
        X7_apart_J9_31 τ w9.1 w9.2
def X7_apart (τ : Mm) : Option (Int32 × Mm) :=
  (some (mup τ 10 0 (0 : Int32))).bind fun t2 =>
  (loopO (X7_apart_L9 t2) FU ((-1 : Int32), (0 : Int32))).bind fun e9 =>
  some (e9, t2)
set_option maxHeartbeats 4000000 in
theorem mX7_apart (τ : Mm) (r : Int32) (τ' : Mm) (hf : X7_apart τ = some (r, τ')) : TMi yX7_apart cX7_apart 6 (some .int) 4 109 (fun aK => []) r τ τ' := by
  refine TMi.of (by decide) rfl (fun _ _ => Nat.le_of_ble_eq_true rfl) ?_
  intro p l e s m args below meth c D cI cZ o z aK aV Q ls hz hx hb hml hown hts hE hret hI hl
  obtain ⟨H, eH⟩ : ∃ H, H = s.heap := ⟨_, rfl⟩
  obtain ⟨locs, eL⟩ : ∃ L : List Loc, L = [] := ⟨_, rfl⟩
  rw [← eH, ← eL] at hI ⊢
  have hl : lv_has ls 6 [(0, .ref o)] := hl
  unfold X7_apart at hf
  refine lv_aload_n hx hb dX7_apart_0 rfl (lv_at hl 0 rfl) ?_
  refine lv_iconst (v := (0 : Int32)) hx hb dX7_apart_1 (by decide) ?_
  obtain ⟨t2, et2, hf⟩ := obd hf
  refine tput hx hb hts hown hE hI 0 (by decide) q2100 rfl (tyX7_ok 0 (by decide)) rfl rfl rfl et2 dX7_apart_2 (fun H locs hI => ?_)
  refine lv_iconst (v := (-1 : Int32)) hx hb dX7_apart_5 (by decide) ?_
  refine lv_istore_n (lv' := [(1, .int (-1 : Int32)), (0, .ref o)]) hx hb dX7_apart_6 rfl hl (by decide) rfl (fun ls hl => ?_)
  refine lv_iconst (v := (0 : Int32)) hx hb dX7_apart_7 (by decide) ?_
  refine lv_istore_n (lv' := [(2, .int (0 : Int32)), (1, .int (-1 : Int32)), (0, .ref o)]) hx hb dX7_apart_8 rfl hl (by decide) rfl (fun ls hl => ?_)
  obtain ⟨e9, he9, hf⟩ := obd hf
  have hs9 : ∀ (τ : Mm) , ∀ (w9 : Int32 × Int32) (o9 : (Int32 × Int32) ⊕ (Int32)), X7_apart_L9 τ w9 = some o9 → (∀ wx_, o9 = .inl wx_ → ∀ (H : Heap) (locs : List Loc) (ls : Array Slot), IT D cI cZ o s H locs τ → lv_has ls 6 [(0, .ref o), (1, .int wx_.1), (2, .int wx_.2)] → W p l e ({ frames := 4, cells := 0, slots := 0, locals := 109 } : Room) s m args below meth c H locs 0 0 Q (F0 m 9 ls [])) → (∀ ex_, o9 = .inr ex_ → ∀ (H : Heap) (locs : List Loc) (ls : Array Slot), IT D cI cZ o s H locs τ → lv_has ls 6 [(1, .int ex_)] → W p l e ({ frames := 4, cells := 0, slots := 0, locals := 109 } : Room) s m args below meth c H locs 0 0 Q (F0 m 135 ls [])) → ∀ (H : Heap) (locs : List Loc) (ls : Array Slot), IT D cI cZ o s H locs τ → lv_has ls 6 [(0, .ref o), (1, .int w9.1), (2, .int w9.2)] → W p l e ({ frames := 4, cells := 0, slots := 0, locals := 109 } : Room) s m args below meth c H locs 0 0 Q (F0 m 9 ls []) := by
    intro τ  w9 o9 hf hk hq H locs ls hI hl
    unfold X7_apart_L9 at hf
    have hJ36 : ∀ (x1 : Int32) (x2 : Int32) (y0 : Int32) (H : Heap) (locs : List Loc) (ls : Array Slot), X7_apart_J9_36 τ x1 x2 y0 = some o9 → IT D cI cZ o s H locs τ → lv_has ls 6 [(0, .ref o), (1, .int x1), (2, .int x2)] → W p l e ({ frames := 4, cells := 0, slots := 0, locals := 109 } : Room) s m args below meth c H locs 0 0 Q (F0 m 36 ls [.int y0]) := by
      intro x1 x2 y0 H locs ls hf hI hl
      unfold X7_apart_J9_36 at hf
      refine lv_istore_n (lv' := [(3, .int y0), (0, .ref o), (1, .int x1), (2, .int x2)]) hx hb dX7_apart_36 rfl hl (by decide) rfl (fun ls hl => ?_)
      refine lv_iconst (v := (0 : Int32)) hx hb dX7_apart_37 (by decide) ?_
      refine lv_istore (lv' := [(4, .int (0 : Int32)), (3, .int y0), (0, .ref o), (1, .int x1), (2, .int x2)]) hx hb dX7_apart_38 hl (by decide) rfl (fun ls hl => ?_)
      obtain ⟨e40, he40, hf⟩ := obd hf
      have hs40 : ∀ (τ : Mm) (c1 : Int32) (c2 : Int32), ∀ (w40 : Int32 × Int32) (o40 : (Int32 × Int32) ⊕ (Int32)), X7_apart_L40 τ c1 c2 w40 = some o40 → (∀ wx_, o40 = .inl wx_ → ∀ (H : Heap) (locs : List Loc) (ls : Array Slot), IT D cI cZ o s H locs τ → lv_has ls 6 [(0, .ref o), (1, .int c1), (2, .int c2), (3, .int wx_.1), (4, .int wx_.2)] → W p l e ({ frames := 4, cells := 0, slots := 0, locals := 109 } : Room) s m args below meth c H locs 0 0 Q (F0 m 40 ls [])) → (∀ ex_, o40 = .inr ex_ → ∀ (H : Heap) (locs : List Loc) (ls : Array Slot), IT D cI cZ o s H locs τ → lv_has ls 6 [(0, .ref o), (1, .int c1), (2, .int c2), (3, .int ex_)] → W p l e ({ frames := 4, cells := 0, slots := 0, locals := 109 } : Room) s m args below meth c H locs 0 0 Q (F0 m 123 ls [])) → ∀ (H : Heap) (locs : List Loc) (ls : Array Slot), IT D cI cZ o s H locs τ → lv_has ls 6 [(0, .ref o), (1, .int c1), (2, .int c2), (3, .int w40.1), (4, .int w40.2)] → W p l e ({ frames := 4, cells := 0, slots := 0, locals := 109 } : Room) s m args below meth c H locs 0 0 Q (F0 m 40 ls []) := by
        intro τ c1 c2 w40 o40 hf hk hq H locs ls hI hl
        unfold X7_apart_L40 at hf
        refine lv_iload hx hb dX7_apart_40 (lv_at hl 4 rfl) ?_
        refine lv_aload_n hx hb dX7_apart_42 rfl (lv_at hl 0 rfl) ?_
        refine tget hx hb hts hown hE hI 1 (by decide) q2101 rfl dX7_apart_43 ?_
        refine lv_iconst (v := (4 : Int32)) hx hb dX7_apart_46 (by decide) ?_
        refine taldc hx hb hE hI 1 781 4 rfl (by decide) (by decide) dX7_apart_47 ?_
        refine lv_icmp_ge (tgt := 123) hx hb dX7_apart_48 (by decide) (fun hc => ?_) (fun hc => ?_)
        · replace hf := ipos hc hf
          exact hq _ (Option.some.inj hf).symm H locs ls hI (lv_sub hl [0, 1, 2, 3] rfl)
        · replace hf := ineg hc hf
          refine lv_iload_n hx hb dX7_apart_51 rfl (lv_at hl 3 rfl) ?_
          refine lv_if_eq (tgt := 123) hx hb dX7_apart_52 (by decide) (fun hc => ?_) (fun hc => ?_)
          · replace hf := ipos hc hf
            exact hq _ (Option.some.inj hf).symm H locs ls hI (lv_sub hl [0, 1, 2, 3] rfl)
          · replace hf := ineg hc hf
            refine lv_iload hx hb dX7_apart_55 (lv_at hl 4 rfl) ?_
            refine lv_iconst (v := (1 : Int32)) hx hb dX7_apart_57 (by decide) ?_
            refine lv_iadd hx hb dX7_apart_58 ?_
            obtain ⟨v59, ev59, hf⟩ := obd hf
            refine nmI ev59 ?_
            refine lv_istore (lv' := [(5, .int v59), (0, .ref o), (1, .int c1), (2, .int c2), (3, .int w40.1), (4, .int w40.2)]) hx hb dX7_apart_59 hl (by decide) rfl (fun ls hl => ?_)
            obtain ⟨e61, he61, hf⟩ := obd hf
            have hs61 : ∀ (τ : Mm) (c1 : Int32) (c2 : Int32) (c4 : Int32), ∀ (w61 : Int32 × Int32) (o61 : (Int32 × Int32) ⊕ (Int32)), X7_apart_L61 τ c1 c2 c4 w61 = some o61 → (∀ wx_, o61 = .inl wx_ → ∀ (H : Heap) (locs : List Loc) (ls : Array Slot), IT D cI cZ o s H locs τ → lv_has ls 6 [(0, .ref o), (1, .int c1), (2, .int c2), (3, .int wx_.1), (4, .int c4), (5, .int wx_.2)] → W p l e ({ frames := 4, cells := 0, slots := 0, locals := 109 } : Room) s m args below meth c H locs 0 0 Q (F0 m 61 ls [])) → (∀ ex_, o61 = .inr ex_ → ∀ (H : Heap) (locs : List Loc) (ls : Array Slot), IT D cI cZ o s H locs τ → lv_has ls 6 [(0, .ref o), (1, .int c1), (2, .int c2), (3, .int ex_), (4, .int c4)] → W p l e ({ frames := 4, cells := 0, slots := 0, locals := 109 } : Room) s m args below meth c H locs 0 0 Q (F0 m 117 ls [])) → ∀ (H : Heap) (locs : List Loc) (ls : Array Slot), IT D cI cZ o s H locs τ → lv_has ls 6 [(0, .ref o), (1, .int c1), (2, .int c2), (3, .int w61.1), (4, .int c4), (5, .int w61.2)] → W p l e ({ frames := 4, cells := 0, slots := 0, locals := 109 } : Room) s m args below meth c H locs 0 0 Q (F0 m 61 ls []) := by
              intro τ c1 c2 c4 w61 o61 hf hk hq H locs ls hI hl
              unfold X7_apart_L61 at hf
              refine lv_iload hx hb dX7_apart_61 (lv_at hl 5 rfl) ?_
              refine lv_aload_n hx hb dX7_apart_63 rfl (lv_at hl 0 rfl) ?_
              refine tget hx hb hts hown hE hI 1 (by decide) q2101 rfl dX7_apart_64 ?_
              refine lv_iconst (v := (4 : Int32)) hx hb dX7_apart_67 (by decide) ?_
              refine taldc hx hb hE hI 1 781 4 rfl (by decide) (by decide) dX7_apart_68 ?_
              refine lv_icmp_ge (tgt := 117) hx hb dX7_apart_69 (by decide) (fun hc => ?_) (fun hc => ?_)
              · replace hf := ipos hc hf
                exact hq _ (Option.some.inj hf).symm H locs ls hI (lv_sub hl [0, 1, 2, 3, 4] rfl)
              · replace hf := ineg hc hf
                refine lv_iload_n hx hb dX7_apart_72 rfl (lv_at hl 3 rfl) ?_
                refine lv_if_eq (tgt := 117) hx hb dX7_apart_73 (by decide) (fun hc => ?_) (fun hc => ?_)
                · replace hf := ipos hc hf
                  exact hq _ (Option.some.inj hf).symm H locs ls hI (lv_sub hl [0, 1, 2, 3, 4] rfl)
                · replace hf := ineg hc hf
                  refine lv_aload_n hx hb dX7_apart_76 rfl (lv_at hl 0 rfl) ?_
                  refine lv_iload hx hb dX7_apart_77 (lv_at hl 4 rfl) ?_
                  refine lv_iconst (v := (2 : Int32)) hx hb dX7_apart_79 (by decide) ?_
                  obtain ⟨x80, ex80, hf⟩ := obd hf
                  refine tcallI (rest := []) hx hb hts hown hE hz hI hml hl.1 (mX7_ofInk τ c4 (2 : Int32) _ ex80) (cwX7_ofInk hts ⟨Nat.le_of_ble_eq_true rfl, Nat.le_of_ble_eq_true rfl⟩) ⟨Nat.le_of_ble_eq_true rfl, Nat.le_of_ble_eq_true rfl⟩ rfl rfl (lv_room (Nat.le_of_ble_eq_true rfl)) dX7_apart_80 (fun H locs hI => ?_)
                  refine lv_aload_n hx hb dX7_apart_83 rfl (lv_at hl 0 rfl) ?_
                  refine lv_iload hx hb dX7_apart_84 (lv_at hl 5 rfl) ?_
                  refine lv_iconst (v := (2 : Int32)) hx hb dX7_apart_86 (by decide) ?_
                  obtain ⟨x87, ex87, hf⟩ := obd hf
                  refine tcallI (rest := [.int x80]) hx hb hts hown hE hz hI hml hl.1 (mX7_ofInk τ w61.2 (2 : Int32) _ ex87) (cwX7_ofInk hts ⟨Nat.le_of_ble_eq_true rfl, Nat.le_of_ble_eq_true rfl⟩) ⟨Nat.le_of_ble_eq_true rfl, Nat.le_of_ble_eq_true rfl⟩ rfl rfl (lv_room (Nat.le_of_ble_eq_true rfl)) dX7_apart_87 (fun H locs hI => ?_)
                  refine lv_icmp_eq (tgt := 105) hx hb dX7_apart_90 (by decide) (fun hc => ?_) (fun hc => ?_)
                  · replace hf := ipos hc hf
                    refine lv_iconst (v := (1 : Int32)) hx hb dX7_apart_105 (by decide) ?_
                    refine lv_goto (tgt := 110) hx hb dX7_apart_106 (by decide) ?_
                    refine lv_istore_n (lv' := [(3, .int (1 : Int32)), (0, .ref o), (1, .int c1), (2, .int c2), (4, .int c4), (5, .int w61.2)]) hx hb dX7_apart_110 rfl hl (by decide) rfl (fun ls hl => ?_)
                    obtain ⟨v111, ev111, hf⟩ := obd hf
                    refine lv_iinc (v := v111) (lv' := [(5, .int v111), (3, .int (1 : Int32)), (0, .ref o), (1, .int c1), (2, .int c2), (4, .int c4)]) hx hb dX7_apart_111 hl (k := 5) rfl (iiE ev111 (by decide)) (by decide) rfl (fun ls hl => ?_)
                    refine lv_goto (tgt := 61) hx hb dX7_apart_114 (by decide) ?_
                    exact hk _ (Option.some.inj hf).symm H locs ls hI (lv_sub hl [2, 3, 4, 1, 5, 0] rfl)
                  · replace hf := ineg hc hf
                    refine lv_aload_n hx hb dX7_apart_93 rfl (lv_at hl 0 rfl) ?_
                    refine lv_iload_n hx hb dX7_apart_94 rfl (lv_at hl 2 rfl) ?_
                    refine lv_iload hx hb dX7_apart_95 (lv_at hl 4 rfl) ?_
                    refine lv_iload hx hb dX7_apart_97 (lv_at hl 5 rfl) ?_
                    obtain ⟨x99, ex99, hf⟩ := obd hf
                    refine tcallI (rest := []) hx hb hts hown hE hz hI hml hl.1 (mX7_areApart τ c2 c4 w61.2 _ ex99) (cwX7_areApart hts ⟨Nat.le_of_ble_eq_true rfl, Nat.le_of_ble_eq_true rfl⟩) ⟨Nat.le_of_ble_eq_true rfl, Nat.le_of_ble_eq_true rfl⟩ rfl rfl (lv_room (Nat.le_of_ble_eq_true rfl)) dX7_apart_99 (fun H locs hI => ?_)
                    refine lv_if_eq (tgt := 109) hx hb dX7_apart_102 (by decide) (fun hc => ?_) (fun hc => ?_)
                    · replace hf := ipos hc hf
                      refine lv_iconst (v := (0 : Int32)) hx hb dX7_apart_109 (by decide) ?_
                      refine lv_istore_n (lv' := [(3, .int (0 : Int32)), (0, .ref o), (1, .int c1), (2, .int c2), (4, .int c4), (5, .int w61.2)]) hx hb dX7_apart_110 rfl hl (by decide) rfl (fun ls hl => ?_)
                      obtain ⟨v111_7, ev111_7, hf⟩ := obd hf
                      refine lv_iinc (v := v111_7) (lv' := [(5, .int v111_7), (3, .int (0 : Int32)), (0, .ref o), (1, .int c1), (2, .int c2), (4, .int c4)]) hx hb dX7_apart_111 hl (k := 5) rfl (iiE ev111_7 (by decide)) (by decide) rfl (fun ls hl => ?_)
                      refine lv_goto (tgt := 61) hx hb dX7_apart_114 (by decide) ?_
                      exact hk _ (Option.some.inj hf).symm H locs ls hI (lv_sub hl [2, 3, 4, 1, 5, 0] rfl)
                    · replace hf := ineg hc hf
                      refine lv_iconst (v := (1 : Int32)) hx hb dX7_apart_105 (by decide) ?_
                      refine lv_goto (tgt := 110) hx hb dX7_apart_106 (by decide) ?_
                      refine lv_istore_n (lv' := [(3, .int (1 : Int32)), (0, .ref o), (1, .int c1), (2, .int c2), (4, .int c4), (5, .int w61.2)]) hx hb dX7_apart_110 rfl hl (by decide) rfl (fun ls hl => ?_)
                      obtain ⟨v111_8, ev111_8, hf⟩ := obd hf
                      refine lv_iinc (v := v111_8) (lv' := [(5, .int v111_8), (3, .int (1 : Int32)), (0, .ref o), (1, .int c1), (2, .int c2), (4, .int c4)]) hx hb dX7_apart_111 hl (k := 5) rfl (iiE ev111_8 (by decide)) (by decide) rfl (fun ls hl => ?_)
                      refine lv_goto (tgt := 61) hx hb dX7_apart_114 (by decide) ?_
                      exact hk _ (Option.some.inj hf).symm H locs ls hI (lv_sub hl [2, 3, 4, 1, 5, 0] rfl)
            refine loopO_W (Wat := fun w61 => ∀ (H : Heap) (locs : List Loc) (ls : Array Slot), IT D cI cZ o s H locs τ → lv_has ls 6 [(0, .ref o), (1, .int c1), (2, .int c2), (3, .int w61.1), (4, .int w40.2), (5, .int w61.2)] → W p l e ({ frames := 4, cells := 0, slots := 0, locals := 109 } : Room) s m args below meth c H locs 0 0 Q (F0 m 61 ls [])) (Wex := fun ex_ => ∀ (H : Heap) (locs : List Loc) (ls : Array Slot), IT D cI cZ o s H locs τ → lv_has ls 6 [(0, .ref o), (1, .int c1), (2, .int c2), (3, .int ex_), (4, .int w40.2)] → W p l e ({ frames := 4, cells := 0, slots := 0, locals := 109 } : Room) s m args below meth c H locs 0 0 Q (F0 m 117 ls [])) (hs61 τ c1 c2 w40.2) FU _ e61 he61 ?_ H locs ls hI (lv_sub hl [1, 2, 3, 4, 5, 0] rfl)
            · skip
              intro H locs ls hI hl
              obtain ⟨v117, ev117, hf⟩ := obd hf
              refine lv_iinc (v := v117) (lv' := [(4, .int v117), (0, .ref o), (1, .int c1), (2, .int c2), (3, .int e61)]) hx hb dX7_apart_117 hl (k := 4) rfl (iiE ev117 (by decide)) (by decide) rfl (fun ls hl => ?_)
              refine lv_goto (tgt := 40) hx hb dX7_apart_120 (by decide) ?_
              exact hk _ (Option.some.inj hf).symm H locs ls hI (lv_sub hl [1, 2, 3, 4, 0] rfl)
      refine loopO_W (Wat := fun w40 => ∀ (H : Heap) (locs : List Loc) (ls : Array Slot), IT D cI cZ o s H locs τ → lv_has ls 6 [(0, .ref o), (1, .int x1), (2, .int x2), (3, .int w40.1), (4, .int w40.2)] → W p l e ({ frames := 4, cells := 0, slots := 0, locals := 109 } : Room) s m args below meth c H locs 0 0 Q (F0 m 40 ls [])) (Wex := fun ex_ => ∀ (H : Heap) (locs : List Loc) (ls : Array Slot), IT D cI cZ o s H locs τ → lv_has ls 6 [(0, .ref o), (1, .int x1), (2, .int x2), (3, .int ex_)] → W p l e ({ frames := 4, cells := 0, slots := 0, locals := 109 } : Room) s m args below meth c H locs 0 0 Q (F0 m 123 ls [])) (hs40 τ x1 x2) FU _ e40 he40 ?_ H locs ls hI (lv_sub hl [2, 3, 4, 1, 0] rfl)
      · skip
        intro H locs ls hI hl
        refine lv_iload_n hx hb dX7_apart_123 rfl (lv_at hl 3 rfl) ?_
        refine lv_if_eq (tgt := 129) hx hb dX7_apart_124 (by decide) (fun hc => ?_) (fun hc => ?_)
        · replace hf := ipos hc hf
          obtain ⟨v129, ev129, hf⟩ := obd hf
          refine lv_iinc (v := v129) (lv' := [(2, .int v129), (0, .ref o), (1, .int x1), (3, .int e40)]) hx hb dX7_apart_129 hl (k := 2) rfl (iiE ev129 (by decide)) (by decide) rfl (fun ls hl => ?_)
          refine lv_goto (tgt := 9) hx hb dX7_apart_132 (by decide) ?_
          exact hk _ (Option.some.inj hf).symm H locs ls hI (lv_sub hl [1, 2, 0] rfl)
        · replace hf := ineg hc hf
          refine lv_iload_n hx hb dX7_apart_127 rfl (lv_at hl 2 rfl) ?_
          refine lv_istore_n (lv' := [(1, .int x2), (0, .ref o), (2, .int x2), (3, .int e40)]) hx hb dX7_apart_128 rfl hl (by decide) rfl (fun ls hl => ?_)
          obtain ⟨v129_11, ev129_11, hf⟩ := obd hf
          refine lv_iinc (v := v129_11) (lv' := [(2, .int v129_11), (1, .int x2), (0, .ref o), (3, .int e40)]) hx hb dX7_apart_129 hl (k := 2) rfl (iiE ev129_11 (by decide)) (by decide) rfl (fun ls hl => ?_)
          refine lv_goto (tgt := 9) hx hb dX7_apart_132 (by decide) ?_
          exact hk _ (Option.some.inj hf).symm H locs ls hI (lv_sub hl [2, 1, 0] rfl)
    have hJ31 : ∀ (x1 : Int32) (x2 : Int32) (H : Heap) (locs : List Loc) (ls : Array Slot), X7_apart_J9_31 τ x1 x2 = some o9 → IT D cI cZ o s H locs τ → lv_has ls 6 [(0, .ref o), (1, .int x1), (2, .int x2)] → W p l e ({ frames := 4, cells := 0, slots := 0, locals := 109 } : Room) s m args below meth c H locs 0 0 Q (F0 m 31 ls []) := by
      intro x1 x2 H locs ls hf hI hl
      unfold X7_apart_J9_31 at hf
      refine lv_iconst (v := (1 : Int32)) hx hb dX7_apart_31 (by decide) ?_
      refine lv_goto (tgt := 36) hx hb dX7_apart_32 (by decide) ?_
      exact hJ36 x1 x2 (1 : Int32) H locs ls hf hI  (lv_sub hl [0, 1, 2] rfl)
    refine lv_iload_n hx hb dX7_apart_9 rfl (lv_at hl 2 rfl) ?_
    refine lv_bipush (v := (16 : Int32)) hx hb dX7_apart_10 (by decide) ?_
    refine lv_icmp_ge (tgt := 135) hx hb dX7_apart_12 (by decide) (fun hc => ?_) (fun hc => ?_)
    · replace hf := ipos hc hf
      exact hq _ (Option.some.inj hf).symm H locs ls hI (lv_sub hl [1] rfl)
    · replace hf := ineg hc hf
      refine lv_iload_n hx hb dX7_apart_15 rfl (lv_at hl 1 rfl) ?_
      refine lv_iconst (v := (-1 : Int32)) hx hb dX7_apart_16 (by decide) ?_
      refine lv_icmp_eq (tgt := 31) hx hb dX7_apart_17 (by decide) (fun hc => ?_) (fun hc => ?_)
      · replace hf := ipos hc hf
        exact hJ31 w9.1 w9.2 H locs ls hf hI  (lv_sub hl [0, 1, 2] rfl)
      · replace hf := ineg hc hf
        refine lv_iload_n hx hb dX7_apart_20 rfl (lv_at hl 2 rfl) ?_
        obtain ⟨x21, ex21, hf⟩ := obd hf
        refine tcallS (rest := []) hx hb hts hown hml hl.1 (mX7_bits w9.2 _ ex21) (cwX7_bits hts ⟨Nat.le_of_ble_eq_true rfl, Nat.le_of_ble_eq_true rfl⟩) ⟨Nat.le_of_ble_eq_true rfl, Nat.le_of_ble_eq_true rfl⟩ rfl rfl (lv_room (Nat.le_of_ble_eq_true rfl)) dX7_apart_21 ?_
        refine lv_iload_n hx hb dX7_apart_24 rfl (lv_at hl 1 rfl) ?_
        obtain ⟨x25, ex25, hf⟩ := obd hf
        refine tcallS (rest := [.int x21]) hx hb hts hown hml hl.1 (mX7_bits w9.1 _ ex25) (cwX7_bits hts ⟨Nat.le_of_ble_eq_true rfl, Nat.le_of_ble_eq_true rfl⟩) ⟨Nat.le_of_ble_eq_true rfl, Nat.le_of_ble_eq_true rfl⟩ rfl rfl (lv_room (Nat.le_of_ble_eq_true rfl)) dX7_apart_25 ?_
        refine lv_icmp_ge (tgt := 35) hx hb dX7_apart_28 (by decide) (fun hc => ?_) (fun hc => ?_)
        · replace hf := ipos hc hf
          refine lv_iconst (v := (0 : Int32)) hx hb dX7_apart_35 (by decide) ?_
          exact hJ36 w9.1 w9.2 (0 : Int32) H locs ls hf hI  (lv_sub hl [0, 1, 2] rfl)
        · replace hf := ineg hc hf
          exact hJ31 w9.1 w9.2 H locs ls hf hI  (lv_sub hl [0, 1, 2] rfl)
  refine loopO_W (Wat := fun w9 => ∀ (H : Heap) (locs : List Loc) (ls : Array Slot), IT D cI cZ o s H locs t2 → lv_has ls 6 [(0, .ref o), (1, .int w9.1), (2, .int w9.2)] → W p l e ({ frames := 4, cells := 0, slots := 0, locals := 109 } : Room) s m args below meth c H locs 0 0 Q (F0 m 9 ls [])) (Wex := fun ex_ => ∀ (H : Heap) (locs : List Loc) (ls : Array Slot), IT D cI cZ o s H locs t2 → lv_has ls 6 [(1, .int ex_)] → W p l e ({ frames := 4, cells := 0, slots := 0, locals := 109 } : Room) s m args below meth c H locs 0 0 Q (F0 m 135 ls [])) (hs9 t2) FU _ e9 he9 ?_ H locs ls hI (lv_sub hl [2, 1, 0] rfl)
  · skip
    intro H locs ls hI hl
    refine lv_iload_n hx hb dX7_apart_135 rfl (lv_at hl 0 rfl) ?_
    have hf := Prod.mk.inj (Option.some.inj hf)
    rw [hf.1]
    exact hret H locs 136 ls (hf.2 ▸ hI) dX7_apart_136


def X7_soonest_L13 (τ : Mm) (c1 : Int32) (w13 : Int32 × Int32 × Int32) : Option ((Int32 × Int32 × Int32) ⊕ (Int32 × Int32)) :=
  if (τ 0 4) ≤ w13.2.2 then
    some (.inr (w13.1, w13.2.1))
  else
    (X7_upOf τ w13.2.2 (τ 0 6)).bind fun x34 =>
    (some (x34 - (τ 0 6))).bind fun v45 =>
    if v45 < w13.2.1 then
      (some (w13.2.2 + (1 : Int32))).bind fun v62 =>
      some (.inl (w13.2.2, v45, v62))
    else
      (some (w13.2.2 + (1 : Int32))).bind fun v62_5 =>
      some (.inl (w13.1, w13.2.1, v62_5))
def X7_soonest (τ : Mm) (a1 : Int32) : Option (Int32 × Mm) :=
  (some (mup τ 10 0 (0 : Int32))).bind fun t2 =>
  (loopO (X7_soonest_L13 t2 a1) FU ((-1 : Int32), (81 : Int32), (0 : Int32))).bind fun e13 =>
  if e13.1 = (-1 : Int32) then
    some (e13.1, t2)
  else
    if a1 = (0 : Int32) then
      some (e13.1, t2)
    else
      some (e13.2, t2)
set_option maxHeartbeats 4000000 in
theorem mX7_soonest (τ : Mm) (a1 : Int32) (r : Int32) (τ' : Mm) (hf : X7_soonest τ a1 = some (r, τ')) : TMi yX7_soonest cX7_soonest 6 (some .int) 4 108 (fun aK => [.int a1]) r τ τ' := by
  refine TMi.of (by decide) rfl (fun _ _ => Nat.le_of_ble_eq_true rfl) ?_
  intro p l e s m args below meth c D cI cZ o z aK aV Q ls hz hx hb hml hown hts hE hret hI hl
  obtain ⟨H, eH⟩ : ∃ H, H = s.heap := ⟨_, rfl⟩
  obtain ⟨locs, eL⟩ : ∃ L : List Loc, L = [] := ⟨_, rfl⟩
  rw [← eH, ← eL] at hI ⊢
  have hl : lv_has ls 6 [(0, .ref o), (1, .int a1)] := hl
  unfold X7_soonest at hf
  refine lv_aload_n hx hb dX7_soonest_0 rfl (lv_at hl 0 rfl) ?_
  refine lv_iconst (v := (0 : Int32)) hx hb dX7_soonest_1 (by decide) ?_
  obtain ⟨t2, et2, hf⟩ := obd hf
  refine tput hx hb hts hown hE hI 0 (by decide) q2100 rfl (tyX7_ok 0 (by decide)) rfl rfl rfl et2 dX7_soonest_2 (fun H locs hI => ?_)
  refine lv_iconst (v := (-1 : Int32)) hx hb dX7_soonest_5 (by decide) ?_
  refine lv_istore_n (lv' := [(2, .int (-1 : Int32)), (0, .ref o), (1, .int a1)]) hx hb dX7_soonest_6 rfl hl (by decide) rfl (fun ls hl => ?_)
  refine lv_bipush (v := (81 : Int32)) hx hb dX7_soonest_7 (by decide) ?_
  refine lv_istore_n (lv' := [(3, .int (81 : Int32)), (2, .int (-1 : Int32)), (0, .ref o), (1, .int a1)]) hx hb dX7_soonest_9 rfl hl (by decide) rfl (fun ls hl => ?_)
  refine lv_iconst (v := (0 : Int32)) hx hb dX7_soonest_10 (by decide) ?_
  refine lv_istore (lv' := [(4, .int (0 : Int32)), (3, .int (81 : Int32)), (2, .int (-1 : Int32)), (0, .ref o), (1, .int a1)]) hx hb dX7_soonest_11 hl (by decide) rfl (fun ls hl => ?_)
  obtain ⟨e13, he13, hf⟩ := obd hf
  have hs13 : ∀ (τ : Mm) (c1 : Int32), ∀ (w13 : Int32 × Int32 × Int32) (o13 : (Int32 × Int32 × Int32) ⊕ (Int32 × Int32)), X7_soonest_L13 τ c1 w13 = some o13 → (∀ wx_, o13 = .inl wx_ → ∀ (H : Heap) (locs : List Loc) (ls : Array Slot), IT D cI cZ o s H locs τ → lv_has ls 6 [(0, .ref o), (1, .int c1), (2, .int wx_.1), (3, .int wx_.2.1), (4, .int wx_.2.2)] → W p l e ({ frames := 4, cells := 0, slots := 0, locals := 108 } : Room) s m args below meth c H locs 0 0 Q (F0 m 13 ls [])) → (∀ ex_, o13 = .inr ex_ → ∀ (H : Heap) (locs : List Loc) (ls : Array Slot), IT D cI cZ o s H locs τ → lv_has ls 6 [(1, .int c1), (2, .int ex_.1), (3, .int ex_.2)] → W p l e ({ frames := 4, cells := 0, slots := 0, locals := 108 } : Room) s m args below meth c H locs 0 0 Q (F0 m 68 ls [])) → ∀ (H : Heap) (locs : List Loc) (ls : Array Slot), IT D cI cZ o s H locs τ → lv_has ls 6 [(0, .ref o), (1, .int c1), (2, .int w13.1), (3, .int w13.2.1), (4, .int w13.2.2)] → W p l e ({ frames := 4, cells := 0, slots := 0, locals := 108 } : Room) s m args below meth c H locs 0 0 Q (F0 m 13 ls []) := by
    intro τ c1 w13 o13 hf hk hq H locs ls hI hl
    unfold X7_soonest_L13 at hf
    refine lv_iload hx hb dX7_soonest_13 (lv_at hl 4 rfl) ?_
    refine lv_aload_n hx hb dX7_soonest_15 rfl (lv_at hl 0 rfl) ?_
    refine tget hx hb hts hown hE hI 1 (by decide) q2101 rfl dX7_soonest_16 ?_
    refine lv_iconst (v := (4 : Int32)) hx hb dX7_soonest_19 (by decide) ?_
    refine taldc hx hb hE hI 1 781 4 rfl (by decide) (by decide) dX7_soonest_20 ?_
    refine lv_icmp_ge (tgt := 68) hx hb dX7_soonest_21 (by decide) (fun hc => ?_) (fun hc => ?_)
    · replace hf := ipos hc hf
      exact hq _ (Option.some.inj hf).symm H locs ls hI (lv_sub hl [1, 2, 3] rfl)
    · replace hf := ineg hc hf
      refine lv_aload_n hx hb dX7_soonest_24 rfl (lv_at hl 0 rfl) ?_
      refine lv_iload hx hb dX7_soonest_25 (lv_at hl 4 rfl) ?_
      refine lv_aload_n hx hb dX7_soonest_27 rfl (lv_at hl 0 rfl) ?_
      refine tget hx hb hts hown hE hI 1 (by decide) q2101 rfl dX7_soonest_28 ?_
      refine lv_bipush (v := (6 : Int32)) hx hb dX7_soonest_31 (by decide) ?_
      refine taldc hx hb hE hI 1 781 6 rfl (by decide) (by decide) dX7_soonest_33 ?_
      obtain ⟨x34, ex34, hf⟩ := obd hf
      refine tcallI (rest := []) hx hb hts hown hE hz hI hml hl.1 (mX7_upOf τ w13.2.2 (τ 0 6) _ ex34) (cwX7_upOf hts ⟨Nat.le_of_ble_eq_true rfl, Nat.le_of_ble_eq_true rfl⟩) ⟨Nat.le_of_ble_eq_true rfl, Nat.le_of_ble_eq_true rfl⟩ rfl rfl (lv_room (Nat.le_of_ble_eq_true rfl)) dX7_soonest_34 (fun H locs hI => ?_)
      refine lv_aload_n hx hb dX7_soonest_37 rfl (lv_at hl 0 rfl) ?_
      refine tget hx hb hts hown hE hI 1 (by decide) q2101 rfl dX7_soonest_38 ?_
      refine lv_bipush (v := (6 : Int32)) hx hb dX7_soonest_41 (by decide) ?_
      refine taldc hx hb hE hI 1 781 6 rfl (by decide) (by decide) dX7_soonest_43 ?_
      refine lv_isub hx hb dX7_soonest_44 ?_
      obtain ⟨v45, ev45, hf⟩ := obd hf
      refine nmI ev45 ?_
      refine lv_istore (lv' := [(5, .int v45), (0, .ref o), (1, .int c1), (2, .int w13.1), (3, .int w13.2.1), (4, .int w13.2.2)]) hx hb dX7_soonest_45 hl (by decide) rfl (fun ls hl => ?_)
      refine lv_iload hx hb dX7_soonest_47 (lv_at hl 0 rfl) ?_
      refine lv_iload_n hx hb dX7_soonest_49 rfl (lv_at hl 4 rfl) ?_
      refine lv_icmp_lt (tgt := 56) hx hb dX7_soonest_50 (by decide) (fun hc => ?_) (fun hc => ?_)
      · replace hf := ipos hc hf
        refine lv_iload hx hb dX7_soonest_56 (lv_at hl 0 rfl) ?_
        refine lv_istore_n (lv' := [(3, .int v45), (5, .int v45), (0, .ref o), (1, .int c1), (2, .int w13.1), (4, .int w13.2.2)]) hx hb dX7_soonest_58 rfl hl (by decide) rfl (fun ls hl => ?_)
        refine lv_iload hx hb dX7_soonest_59 (lv_at hl 5 rfl) ?_
        refine lv_istore_n (lv' := [(2, .int w13.2.2), (3, .int v45), (5, .int v45), (0, .ref o), (1, .int c1), (4, .int w13.2.2)]) hx hb dX7_soonest_61 rfl hl (by decide) rfl (fun ls hl => ?_)
        obtain ⟨v62, ev62, hf⟩ := obd hf
        refine lv_iinc (v := v62) (lv' := [(4, .int v62), (2, .int w13.2.2), (3, .int v45), (5, .int v45), (0, .ref o), (1, .int c1)]) hx hb dX7_soonest_62 hl (k := 5) rfl (iiE ev62 (by decide)) (by decide) rfl (fun ls hl => ?_)
        refine lv_goto (tgt := 13) hx hb dX7_soonest_65 (by decide) ?_
        exact hk _ (Option.some.inj hf).symm H locs ls hI (lv_sub hl [4, 5, 1, 2, 0] rfl)
      · replace hf := ineg hc hf
        refine lv_goto (tgt := 62) hx hb dX7_soonest_53 (by decide) ?_
        obtain ⟨v62_5, ev62_5, hf⟩ := obd hf
        refine lv_iinc (v := v62_5) (lv' := [(4, .int v62_5), (5, .int v45), (0, .ref o), (1, .int c1), (2, .int w13.1), (3, .int w13.2.1)]) hx hb dX7_soonest_62 hl (k := 5) rfl (iiE ev62_5 (by decide)) (by decide) rfl (fun ls hl => ?_)
        refine lv_goto (tgt := 13) hx hb dX7_soonest_65 (by decide) ?_
        exact hk _ (Option.some.inj hf).symm H locs ls hI (lv_sub hl [2, 3, 4, 5, 0] rfl)
  refine loopO_W (Wat := fun w13 => ∀ (H : Heap) (locs : List Loc) (ls : Array Slot), IT D cI cZ o s H locs t2 → lv_has ls 6 [(0, .ref o), (1, .int a1), (2, .int w13.1), (3, .int w13.2.1), (4, .int w13.2.2)] → W p l e ({ frames := 4, cells := 0, slots := 0, locals := 108 } : Room) s m args below meth c H locs 0 0 Q (F0 m 13 ls [])) (Wex := fun ex_ => ∀ (H : Heap) (locs : List Loc) (ls : Array Slot), IT D cI cZ o s H locs t2 → lv_has ls 6 [(1, .int a1), (2, .int ex_.1), (3, .int ex_.2)] → W p l e ({ frames := 4, cells := 0, slots := 0, locals := 108 } : Room) s m args below meth c H locs 0 0 Q (F0 m 68 ls [])) (hs13 t2 a1) FU _ e13 he13 ?_ H locs ls hI (lv_sub hl [3, 4, 2, 1, 0] rfl)
  · skip
    intro H locs ls hI hl
    refine lv_iload_n hx hb dX7_soonest_68 rfl (lv_at hl 1 rfl) ?_
    refine lv_iconst (v := (-1 : Int32)) hx hb dX7_soonest_69 (by decide) ?_
    refine lv_icmp_eq (tgt := 77) hx hb dX7_soonest_70 (by decide) (fun hc => ?_) (fun hc => ?_)
    · replace hf := ipos hc hf
      refine lv_iload_n hx hb dX7_soonest_77 rfl (lv_at hl 1 rfl) ?_
      refine lv_goto (tgt := 82) hx hb dX7_soonest_78 (by decide) ?_
      have hf := Prod.mk.inj (Option.some.inj hf)
      rw [hf.1]
      exact hret H locs 82 ls (hf.2 ▸ hI) dX7_soonest_82
    · replace hf := ineg hc hf
      refine lv_iload_n hx hb dX7_soonest_73 rfl (lv_at hl 0 rfl) ?_
      refine lv_if_ne (tgt := 81) hx hb dX7_soonest_74 (by decide) (fun hc => ?_) (fun hc => ?_)
      · replace hf := ineg hc hf
        refine lv_iload_n hx hb dX7_soonest_81 rfl (lv_at hl 2 rfl) ?_
        have hf := Prod.mk.inj (Option.some.inj hf)
        rw [hf.1]
        exact hret H locs 82 ls (hf.2 ▸ hI) dX7_soonest_82
      · replace hf := ipos hc hf
        refine lv_iload_n hx hb dX7_soonest_77 rfl (lv_at hl 1 rfl) ?_
        refine lv_goto (tgt := 82) hx hb dX7_soonest_78 (by decide) ?_
        have hf := Prod.mk.inj (Option.some.inj hf)
        rw [hf.1]
        exact hret H locs 82 ls (hf.2 ▸ hI) dX7_soonest_82


def X7_owesBy_J6_97 (τ : Mm) (c1 : Int32) (c2 : Int32) (c3 : Int32) (x5 : Int32) (y0 : Int32) : Option ((Int32 × Int32) ⊕ (Int32)) :=
  (X7_of τ x5 (1 : Int32)).bind fun x101 =>
  if x101 = c2 then
    (X7_of τ x5 (2 : Int32)).bind fun x112 =>
    if x112 = c1 then
      (X7_of τ x5 (3 : Int32)).bind fun x123 =>
      (some (y0 + (-x123))).bind fun v132_8 =>
      (some (x5 + (1 : Int32))).bind fun v134_9 =>
      some (.inl (v132_8, v134_9))
    else
      (some (y0 + (0 : Int32))).bind fun v132_5 =>
      (some (x5 + (1 : Int32))).bind fun v134_6 =>
      some (.inl (v132_5, v134_6))
  else
    (some (y0 + (0 : Int32))).bind fun v132 =>
    (some (x5 + (1 : Int32))).bind fun v134 =>
    some (.inl (v132, v134))
def X7_owesBy_L6 (τ : Mm) (c1 : Int32) (c2 : Int32) (c3 : Int32) (w6 : Int32 × Int32) : Option ((Int32 × Int32) ⊕ (Int32)) :=
  if (τ 0 5) ≤ w6.2 then
    some (.inr w6.1)
  else
    (X7_isValidNow τ w6.2).bind fun x20 =>
    if x20 = (0 : Int32) then
      (some (w6.2 + (1 : Int32))).bind fun v134_11 =>
      some (.inl (w6.1, v134_11))
    else
      (X7_of τ w6.2 (11 : Int32)).bind fun x31 =>
      if x31 = (1 : Int32) then
        (some (w6.2 + (1 : Int32))).bind fun v134_13 =>
        some (.inl (w6.1, v134_13))
      else
        (X7_of τ w6.2 (1 : Int32)).bind fun x42 =>
        if x42 = c3 then
          (some (w6.2 + (1 : Int32))).bind fun v134_15 =>
          some (.inl (w6.1, v134_15))
        else
          (X7_of τ w6.2 (2 : Int32)).bind fun x53 =>
          if x53 = c3 then
            (some (w6.2 + (1 : Int32))).bind fun v134_22 =>
            some (.inl (w6.1, v134_22))
          else
            (X7_of τ w6.2 (1 : Int32)).bind fun x69 =>
            if x69 = c1 then
              (X7_of τ w6.2 (2 : Int32)).bind fun x80 =>
              if x80 = c2 then
                (X7_of τ w6.2 (3 : Int32)).bind fun x91 =>
                (some (w6.1 + x91)).bind fun v132_20 =>
                (some (w6.2 + (1 : Int32))).bind fun v134_21 =>
                some (.inl (v132_20, v134_21))
              else
                X7_owesBy_J6_97 τ c1 c2 c3 w6.2 w6.1
            else
              X7_owesBy_J6_97 τ c1 c2 c3 w6.2 w6.1
def X7_owesBy (τ : Mm) (a1 : Int32) (a2 : Int32) (a3 : Int32) : Option (Int32) :=
  (loopO (X7_owesBy_L6 τ a1 a2 a3) FU ((0 : Int32), (0 : Int32))).bind fun e6 =>
  (X7_greater (0 : Int32) e6).bind fun x143 =>
  some x143
set_option maxHeartbeats 4000000 in
theorem mX7_owesBy (τ : Mm) (a1 : Int32) (a2 : Int32) (a3 : Int32) (r : Int32) (hf : X7_owesBy τ a1 a2 a3 = some r) : TMi yX7_owesBy cX7_owesBy 6 (some .int) 4 106 (fun aK => [.int a1, .int a2, .int a3]) r τ τ := by
  refine TMi.of (by decide) rfl (fun _ _ => Nat.le_of_ble_eq_true rfl) ?_
  intro p l e s m args below meth c D cI cZ o z aK aV Q ls hz hx hb hml hown hts hE hret hI hl
  obtain ⟨H, eH⟩ : ∃ H, H = s.heap := ⟨_, rfl⟩
  obtain ⟨locs, eL⟩ : ∃ L : List Loc, L = [] := ⟨_, rfl⟩
  rw [← eH, ← eL] at hI ⊢
  have hl : lv_has ls 6 [(0, .ref o), (1, .int a1), (2, .int a2), (3, .int a3)] := hl
  unfold X7_owesBy at hf
  refine lv_iconst (v := (0 : Int32)) hx hb dX7_owesBy_0 (by decide) ?_
  refine lv_istore (lv' := [(4, .int (0 : Int32)), (0, .ref o), (1, .int a1), (2, .int a2), (3, .int a3)]) hx hb dX7_owesBy_1 hl (by decide) rfl (fun ls hl => ?_)
  refine lv_iconst (v := (0 : Int32)) hx hb dX7_owesBy_3 (by decide) ?_
  refine lv_istore (lv' := [(5, .int (0 : Int32)), (4, .int (0 : Int32)), (0, .ref o), (1, .int a1), (2, .int a2), (3, .int a3)]) hx hb dX7_owesBy_4 hl (by decide) rfl (fun ls hl => ?_)
  obtain ⟨e6, he6, hf⟩ := obd hf
  have hs6 : ∀ (c1 : Int32) (c2 : Int32) (c3 : Int32), ∀ (w6 : Int32 × Int32) (o6 : (Int32 × Int32) ⊕ (Int32)), X7_owesBy_L6 τ c1 c2 c3 w6 = some o6 → (∀ wx_, o6 = .inl wx_ → ∀ (H : Heap) (locs : List Loc) (ls : Array Slot), IT D cI cZ o s H locs τ → lv_has ls 6 [(0, .ref o), (1, .int c1), (2, .int c2), (3, .int c3), (4, .int wx_.1), (5, .int wx_.2)] → W p l e ({ frames := 4, cells := 0, slots := 0, locals := 106 } : Room) s m args below meth c H locs 0 0 Q (F0 m 6 ls [])) → (∀ ex_, o6 = .inr ex_ → ∀ (H : Heap) (locs : List Loc) (ls : Array Slot), IT D cI cZ o s H locs τ → lv_has ls 6 [(4, .int ex_)] → W p l e ({ frames := 4, cells := 0, slots := 0, locals := 106 } : Room) s m args below meth c H locs 0 0 Q (F0 m 140 ls [])) → ∀ (H : Heap) (locs : List Loc) (ls : Array Slot), IT D cI cZ o s H locs τ → lv_has ls 6 [(0, .ref o), (1, .int c1), (2, .int c2), (3, .int c3), (4, .int w6.1), (5, .int w6.2)] → W p l e ({ frames := 4, cells := 0, slots := 0, locals := 106 } : Room) s m args below meth c H locs 0 0 Q (F0 m 6 ls []) := by
    intro c1 c2 c3 w6 o6 hf hk hq H locs ls hI hl
    unfold X7_owesBy_L6 at hf
    have hJ97 : ∀ (x5 : Int32) (y0 : Int32) (H : Heap) (locs : List Loc) (ls : Array Slot), X7_owesBy_J6_97 τ c1 c2 c3 x5 y0 = some o6 → IT D cI cZ o s H locs τ → lv_has ls 6 [(0, .ref o), (1, .int c1), (2, .int c2), (3, .int c3), (5, .int x5)] → W p l e ({ frames := 4, cells := 0, slots := 0, locals := 106 } : Room) s m args below meth c H locs 0 0 Q (F0 m 97 ls [.int y0]) := by
      intro x5 y0 H locs ls hf hI hl
      unfold X7_owesBy_J6_97 at hf
      refine lv_aload_n hx hb dX7_owesBy_97 rfl (lv_at hl 0 rfl) ?_
      refine lv_iload hx hb dX7_owesBy_98 (lv_at hl 4 rfl) ?_
      refine lv_iconst (v := (1 : Int32)) hx hb dX7_owesBy_100 (by decide) ?_
      obtain ⟨x101, ex101, hf⟩ := obd hf
      refine tcallI (rest := [.int y0]) hx hb hts hown hE hz hI hml hl.1 (mX7_of τ x5 (1 : Int32) _ ex101) (cwX7_of hts ⟨Nat.le_of_ble_eq_true rfl, Nat.le_of_ble_eq_true rfl⟩) ⟨Nat.le_of_ble_eq_true rfl, Nat.le_of_ble_eq_true rfl⟩ rfl rfl (lv_room (Nat.le_of_ble_eq_true rfl)) dX7_owesBy_101 (fun H locs hI => ?_)
      refine lv_iload_n hx hb dX7_owesBy_104 rfl (lv_at hl 2 rfl) ?_
      refine lv_icmp_ne (tgt := 130) hx hb dX7_owesBy_105 (by decide) (fun hc => ?_) (fun hc => ?_)
      · replace hf := ineg hc hf
        refine lv_iconst (v := (0 : Int32)) hx hb dX7_owesBy_130 (by decide) ?_
        refine lv_iadd hx hb dX7_owesBy_131 ?_
        obtain ⟨v132, ev132, hf⟩ := obd hf
        refine nmI ev132 ?_
        refine lv_istore (lv' := [(4, .int v132), (0, .ref o), (1, .int c1), (2, .int c2), (3, .int c3), (5, .int x5)]) hx hb dX7_owesBy_132 hl (by decide) rfl (fun ls hl => ?_)
        obtain ⟨v134, ev134, hf⟩ := obd hf
        refine lv_iinc (v := v134) (lv' := [(5, .int v134), (4, .int v132), (0, .ref o), (1, .int c1), (2, .int c2), (3, .int c3)]) hx hb dX7_owesBy_134 hl (k := 5) rfl (iiE ev134 (by decide)) (by decide) rfl (fun ls hl => ?_)
        refine lv_goto (tgt := 6) hx hb dX7_owesBy_137 (by decide) ?_
        exact hk _ (Option.some.inj hf).symm H locs ls hI (lv_sub hl [2, 3, 4, 5, 1, 0] rfl)
      · replace hf := ipos hc hf
        refine lv_aload_n hx hb dX7_owesBy_108 rfl (lv_at hl 0 rfl) ?_
        refine lv_iload hx hb dX7_owesBy_109 (lv_at hl 4 rfl) ?_
        refine lv_iconst (v := (2 : Int32)) hx hb dX7_owesBy_111 (by decide) ?_
        obtain ⟨x112, ex112, hf⟩ := obd hf
        refine tcallI (rest := [.int y0]) hx hb hts hown hE hz hI hml hl.1 (mX7_of τ x5 (2 : Int32) _ ex112) (cwX7_of hts ⟨Nat.le_of_ble_eq_true rfl, Nat.le_of_ble_eq_true rfl⟩) ⟨Nat.le_of_ble_eq_true rfl, Nat.le_of_ble_eq_true rfl⟩ rfl rfl (lv_room (Nat.le_of_ble_eq_true rfl)) dX7_owesBy_112 (fun H locs hI => ?_)
        refine lv_iload_n hx hb dX7_owesBy_115 rfl (lv_at hl 1 rfl) ?_
        refine lv_icmp_ne (tgt := 130) hx hb dX7_owesBy_116 (by decide) (fun hc => ?_) (fun hc => ?_)
        · replace hf := ineg hc hf
          refine lv_iconst (v := (0 : Int32)) hx hb dX7_owesBy_130 (by decide) ?_
          refine lv_iadd hx hb dX7_owesBy_131 ?_
          obtain ⟨v132_5, ev132_5, hf⟩ := obd hf
          refine nmI ev132_5 ?_
          refine lv_istore (lv' := [(4, .int v132_5), (0, .ref o), (1, .int c1), (2, .int c2), (3, .int c3), (5, .int x5)]) hx hb dX7_owesBy_132 hl (by decide) rfl (fun ls hl => ?_)
          obtain ⟨v134_6, ev134_6, hf⟩ := obd hf
          refine lv_iinc (v := v134_6) (lv' := [(5, .int v134_6), (4, .int v132_5), (0, .ref o), (1, .int c1), (2, .int c2), (3, .int c3)]) hx hb dX7_owesBy_134 hl (k := 5) rfl (iiE ev134_6 (by decide)) (by decide) rfl (fun ls hl => ?_)
          refine lv_goto (tgt := 6) hx hb dX7_owesBy_137 (by decide) ?_
          exact hk _ (Option.some.inj hf).symm H locs ls hI (lv_sub hl [2, 3, 4, 5, 1, 0] rfl)
        · replace hf := ipos hc hf
          refine lv_aload_n hx hb dX7_owesBy_119 rfl (lv_at hl 0 rfl) ?_
          refine lv_iload hx hb dX7_owesBy_120 (lv_at hl 4 rfl) ?_
          refine lv_iconst (v := (3 : Int32)) hx hb dX7_owesBy_122 (by decide) ?_
          obtain ⟨x123, ex123, hf⟩ := obd hf
          refine tcallI (rest := [.int y0]) hx hb hts hown hE hz hI hml hl.1 (mX7_of τ x5 (3 : Int32) _ ex123) (cwX7_of hts ⟨Nat.le_of_ble_eq_true rfl, Nat.le_of_ble_eq_true rfl⟩) ⟨Nat.le_of_ble_eq_true rfl, Nat.le_of_ble_eq_true rfl⟩ rfl rfl (lv_room (Nat.le_of_ble_eq_true rfl)) dX7_owesBy_123 (fun H locs hI => ?_)
          refine lv_ineg hx hb dX7_owesBy_126 ?_
          refine lv_goto (tgt := 131) hx hb dX7_owesBy_127 (by decide) ?_
          refine lv_iadd hx hb dX7_owesBy_131 ?_
          obtain ⟨v132_8, ev132_8, hf⟩ := obd hf
          refine nmI ev132_8 ?_
          refine lv_istore (lv' := [(4, .int v132_8), (0, .ref o), (1, .int c1), (2, .int c2), (3, .int c3), (5, .int x5)]) hx hb dX7_owesBy_132 hl (by decide) rfl (fun ls hl => ?_)
          obtain ⟨v134_9, ev134_9, hf⟩ := obd hf
          refine lv_iinc (v := v134_9) (lv' := [(5, .int v134_9), (4, .int v132_8), (0, .ref o), (1, .int c1), (2, .int c2), (3, .int c3)]) hx hb dX7_owesBy_134 hl (k := 5) rfl (iiE ev134_9 (by decide)) (by decide) rfl (fun ls hl => ?_)
          refine lv_goto (tgt := 6) hx hb dX7_owesBy_137 (by decide) ?_
          exact hk _ (Option.some.inj hf).symm H locs ls hI (lv_sub hl [2, 3, 4, 5, 1, 0] rfl)
    refine lv_iload hx hb dX7_owesBy_6 (lv_at hl 5 rfl) ?_
    refine lv_aload_n hx hb dX7_owesBy_8 rfl (lv_at hl 0 rfl) ?_
    refine tget hx hb hts hown hE hI 1 (by decide) q2101 rfl dX7_owesBy_9 ?_
    refine lv_iconst (v := (5 : Int32)) hx hb dX7_owesBy_12 (by decide) ?_
    refine taldc hx hb hE hI 1 781 5 rfl (by decide) (by decide) dX7_owesBy_13 ?_
    refine lv_icmp_ge (tgt := 140) hx hb dX7_owesBy_14 (by decide) (fun hc => ?_) (fun hc => ?_)
    · replace hf := ipos hc hf
      exact hq _ (Option.some.inj hf).symm H locs ls hI (lv_sub hl [4] rfl)
    · replace hf := ineg hc hf
      refine lv_aload_n hx hb dX7_owesBy_17 rfl (lv_at hl 0 rfl) ?_
      refine lv_iload hx hb dX7_owesBy_18 (lv_at hl 5 rfl) ?_
      obtain ⟨x20, ex20, hf⟩ := obd hf
      refine tcallI (rest := []) hx hb hts hown hE hz hI hml hl.1 (mX7_isValidNow τ w6.2 _ ex20) (cwX7_isValidNow hts ⟨Nat.le_of_ble_eq_true rfl, Nat.le_of_ble_eq_true rfl⟩) ⟨Nat.le_of_ble_eq_true rfl, Nat.le_of_ble_eq_true rfl⟩ rfl rfl (lv_room (Nat.le_of_ble_eq_true rfl)) dX7_owesBy_20 (fun H locs hI => ?_)
      refine lv_if_eq (tgt := 134) hx hb dX7_owesBy_23 (by decide) (fun hc => ?_) (fun hc => ?_)
      · replace hf := ipos hc hf
        obtain ⟨v134_11, ev134_11, hf⟩ := obd hf
        refine lv_iinc (v := v134_11) (lv' := [(5, .int v134_11), (0, .ref o), (1, .int c1), (2, .int c2), (3, .int c3), (4, .int w6.1)]) hx hb dX7_owesBy_134 hl (k := 5) rfl (iiE ev134_11 (by decide)) (by decide) rfl (fun ls hl => ?_)
        refine lv_goto (tgt := 6) hx hb dX7_owesBy_137 (by decide) ?_
        exact hk _ (Option.some.inj hf).symm H locs ls hI (lv_sub hl [1, 2, 3, 4, 5, 0] rfl)
      · replace hf := ineg hc hf
        refine lv_aload_n hx hb dX7_owesBy_26 rfl (lv_at hl 0 rfl) ?_
        refine lv_iload hx hb dX7_owesBy_27 (lv_at hl 5 rfl) ?_
        refine lv_bipush (v := (11 : Int32)) hx hb dX7_owesBy_29 (by decide) ?_
        obtain ⟨x31, ex31, hf⟩ := obd hf
        refine tcallI (rest := []) hx hb hts hown hE hz hI hml hl.1 (mX7_of τ w6.2 (11 : Int32) _ ex31) (cwX7_of hts ⟨Nat.le_of_ble_eq_true rfl, Nat.le_of_ble_eq_true rfl⟩) ⟨Nat.le_of_ble_eq_true rfl, Nat.le_of_ble_eq_true rfl⟩ rfl rfl (lv_room (Nat.le_of_ble_eq_true rfl)) dX7_owesBy_31 (fun H locs hI => ?_)
        refine lv_iconst (v := (1 : Int32)) hx hb dX7_owesBy_34 (by decide) ?_
        refine lv_icmp_eq (tgt := 134) hx hb dX7_owesBy_35 (by decide) (fun hc => ?_) (fun hc => ?_)
        · replace hf := ipos hc hf
          obtain ⟨v134_13, ev134_13, hf⟩ := obd hf
          refine lv_iinc (v := v134_13) (lv' := [(5, .int v134_13), (0, .ref o), (1, .int c1), (2, .int c2), (3, .int c3), (4, .int w6.1)]) hx hb dX7_owesBy_134 hl (k := 5) rfl (iiE ev134_13 (by decide)) (by decide) rfl (fun ls hl => ?_)
          refine lv_goto (tgt := 6) hx hb dX7_owesBy_137 (by decide) ?_
          exact hk _ (Option.some.inj hf).symm H locs ls hI (lv_sub hl [1, 2, 3, 4, 5, 0] rfl)
        · replace hf := ineg hc hf
          refine lv_aload_n hx hb dX7_owesBy_38 rfl (lv_at hl 0 rfl) ?_
          refine lv_iload hx hb dX7_owesBy_39 (lv_at hl 5 rfl) ?_
          refine lv_iconst (v := (1 : Int32)) hx hb dX7_owesBy_41 (by decide) ?_
          obtain ⟨x42, ex42, hf⟩ := obd hf
          refine tcallI (rest := []) hx hb hts hown hE hz hI hml hl.1 (mX7_of τ w6.2 (1 : Int32) _ ex42) (cwX7_of hts ⟨Nat.le_of_ble_eq_true rfl, Nat.le_of_ble_eq_true rfl⟩) ⟨Nat.le_of_ble_eq_true rfl, Nat.le_of_ble_eq_true rfl⟩ rfl rfl (lv_room (Nat.le_of_ble_eq_true rfl)) dX7_owesBy_42 (fun H locs hI => ?_)
          refine lv_iload_n hx hb dX7_owesBy_45 rfl (lv_at hl 3 rfl) ?_
          refine lv_icmp_eq (tgt := 134) hx hb dX7_owesBy_46 (by decide) (fun hc => ?_) (fun hc => ?_)
          · replace hf := ipos hc hf
            obtain ⟨v134_15, ev134_15, hf⟩ := obd hf
            refine lv_iinc (v := v134_15) (lv' := [(5, .int v134_15), (0, .ref o), (1, .int c1), (2, .int c2), (3, .int c3), (4, .int w6.1)]) hx hb dX7_owesBy_134 hl (k := 5) rfl (iiE ev134_15 (by decide)) (by decide) rfl (fun ls hl => ?_)
            refine lv_goto (tgt := 6) hx hb dX7_owesBy_137 (by decide) ?_
            exact hk _ (Option.some.inj hf).symm H locs ls hI (lv_sub hl [1, 2, 3, 4, 5, 0] rfl)
          · replace hf := ineg hc hf
            refine lv_aload_n hx hb dX7_owesBy_49 rfl (lv_at hl 0 rfl) ?_
            refine lv_iload hx hb dX7_owesBy_50 (lv_at hl 5 rfl) ?_
            refine lv_iconst (v := (2 : Int32)) hx hb dX7_owesBy_52 (by decide) ?_
            obtain ⟨x53, ex53, hf⟩ := obd hf
            refine tcallI (rest := []) hx hb hts hown hE hz hI hml hl.1 (mX7_of τ w6.2 (2 : Int32) _ ex53) (cwX7_of hts ⟨Nat.le_of_ble_eq_true rfl, Nat.le_of_ble_eq_true rfl⟩) ⟨Nat.le_of_ble_eq_true rfl, Nat.le_of_ble_eq_true rfl⟩ rfl rfl (lv_room (Nat.le_of_ble_eq_true rfl)) dX7_owesBy_53 (fun H locs hI => ?_)
            refine lv_iload_n hx hb dX7_owesBy_56 rfl (lv_at hl 3 rfl) ?_
            refine lv_icmp_ne (tgt := 63) hx hb dX7_owesBy_57 (by decide) (fun hc => ?_) (fun hc => ?_)
            · replace hf := ineg hc hf
              refine lv_iload hx hb dX7_owesBy_63 (lv_at hl 4 rfl) ?_
              refine lv_aload_n hx hb dX7_owesBy_65 rfl (lv_at hl 0 rfl) ?_
              refine lv_iload hx hb dX7_owesBy_66 (lv_at hl 5 rfl) ?_
              refine lv_iconst (v := (1 : Int32)) hx hb dX7_owesBy_68 (by decide) ?_
              obtain ⟨x69, ex69, hf⟩ := obd hf
              refine tcallI (rest := [.int w6.1]) hx hb hts hown hE hz hI hml hl.1 (mX7_of τ w6.2 (1 : Int32) _ ex69) (cwX7_of hts ⟨Nat.le_of_ble_eq_true rfl, Nat.le_of_ble_eq_true rfl⟩) ⟨Nat.le_of_ble_eq_true rfl, Nat.le_of_ble_eq_true rfl⟩ rfl rfl (lv_room (Nat.le_of_ble_eq_true rfl)) dX7_owesBy_69 (fun H locs hI => ?_)
              refine lv_iload_n hx hb dX7_owesBy_72 rfl (lv_at hl 1 rfl) ?_
              refine lv_icmp_ne (tgt := 97) hx hb dX7_owesBy_73 (by decide) (fun hc => ?_) (fun hc => ?_)
              · replace hf := ineg hc hf
                exact hJ97 w6.2 w6.1 H locs ls hf hI  (lv_sub hl [0, 1, 2, 3, 5] rfl)
              · replace hf := ipos hc hf
                refine lv_aload_n hx hb dX7_owesBy_76 rfl (lv_at hl 0 rfl) ?_
                refine lv_iload hx hb dX7_owesBy_77 (lv_at hl 5 rfl) ?_
                refine lv_iconst (v := (2 : Int32)) hx hb dX7_owesBy_79 (by decide) ?_
                obtain ⟨x80, ex80, hf⟩ := obd hf
                refine tcallI (rest := [.int w6.1]) hx hb hts hown hE hz hI hml hl.1 (mX7_of τ w6.2 (2 : Int32) _ ex80) (cwX7_of hts ⟨Nat.le_of_ble_eq_true rfl, Nat.le_of_ble_eq_true rfl⟩) ⟨Nat.le_of_ble_eq_true rfl, Nat.le_of_ble_eq_true rfl⟩ rfl rfl (lv_room (Nat.le_of_ble_eq_true rfl)) dX7_owesBy_80 (fun H locs hI => ?_)
                refine lv_iload_n hx hb dX7_owesBy_83 rfl (lv_at hl 2 rfl) ?_
                refine lv_icmp_ne (tgt := 97) hx hb dX7_owesBy_84 (by decide) (fun hc => ?_) (fun hc => ?_)
                · replace hf := ineg hc hf
                  exact hJ97 w6.2 w6.1 H locs ls hf hI  (lv_sub hl [0, 1, 2, 3, 5] rfl)
                · replace hf := ipos hc hf
                  refine lv_aload_n hx hb dX7_owesBy_87 rfl (lv_at hl 0 rfl) ?_
                  refine lv_iload hx hb dX7_owesBy_88 (lv_at hl 5 rfl) ?_
                  refine lv_iconst (v := (3 : Int32)) hx hb dX7_owesBy_90 (by decide) ?_
                  obtain ⟨x91, ex91, hf⟩ := obd hf
                  refine tcallI (rest := [.int w6.1]) hx hb hts hown hE hz hI hml hl.1 (mX7_of τ w6.2 (3 : Int32) _ ex91) (cwX7_of hts ⟨Nat.le_of_ble_eq_true rfl, Nat.le_of_ble_eq_true rfl⟩) ⟨Nat.le_of_ble_eq_true rfl, Nat.le_of_ble_eq_true rfl⟩ rfl rfl (lv_room (Nat.le_of_ble_eq_true rfl)) dX7_owesBy_91 (fun H locs hI => ?_)
                  refine lv_goto (tgt := 131) hx hb dX7_owesBy_94 (by decide) ?_
                  refine lv_iadd hx hb dX7_owesBy_131 ?_
                  obtain ⟨v132_20, ev132_20, hf⟩ := obd hf
                  refine nmI ev132_20 ?_
                  refine lv_istore (lv' := [(4, .int v132_20), (0, .ref o), (1, .int c1), (2, .int c2), (3, .int c3), (5, .int w6.2)]) hx hb dX7_owesBy_132 hl (by decide) rfl (fun ls hl => ?_)
                  obtain ⟨v134_21, ev134_21, hf⟩ := obd hf
                  refine lv_iinc (v := v134_21) (lv' := [(5, .int v134_21), (4, .int v132_20), (0, .ref o), (1, .int c1), (2, .int c2), (3, .int c3)]) hx hb dX7_owesBy_134 hl (k := 5) rfl (iiE ev134_21 (by decide)) (by decide) rfl (fun ls hl => ?_)
                  refine lv_goto (tgt := 6) hx hb dX7_owesBy_137 (by decide) ?_
                  exact hk _ (Option.some.inj hf).symm H locs ls hI (lv_sub hl [2, 3, 4, 5, 1, 0] rfl)
            · replace hf := ipos hc hf
              refine lv_goto (tgt := 134) hx hb dX7_owesBy_60 (by decide) ?_
              obtain ⟨v134_22, ev134_22, hf⟩ := obd hf
              refine lv_iinc (v := v134_22) (lv' := [(5, .int v134_22), (0, .ref o), (1, .int c1), (2, .int c2), (3, .int c3), (4, .int w6.1)]) hx hb dX7_owesBy_134 hl (k := 5) rfl (iiE ev134_22 (by decide)) (by decide) rfl (fun ls hl => ?_)
              refine lv_goto (tgt := 6) hx hb dX7_owesBy_137 (by decide) ?_
              exact hk _ (Option.some.inj hf).symm H locs ls hI (lv_sub hl [1, 2, 3, 4, 5, 0] rfl)
  refine loopO_W (Wat := fun w6 => ∀ (H : Heap) (locs : List Loc) (ls : Array Slot), IT D cI cZ o s H locs τ → lv_has ls 6 [(0, .ref o), (1, .int a1), (2, .int a2), (3, .int a3), (4, .int w6.1), (5, .int w6.2)] → W p l e ({ frames := 4, cells := 0, slots := 0, locals := 106 } : Room) s m args below meth c H locs 0 0 Q (F0 m 6 ls [])) (Wex := fun ex_ => ∀ (H : Heap) (locs : List Loc) (ls : Array Slot), IT D cI cZ o s H locs τ → lv_has ls 6 [(4, .int ex_)] → W p l e ({ frames := 4, cells := 0, slots := 0, locals := 106 } : Room) s m args below meth c H locs 0 0 Q (F0 m 140 ls [])) (hs6 a1 a2 a3) FU _ e6 he6 ?_ H locs ls hI (lv_sub hl [2, 3, 4, 5, 1, 0] rfl)
  · skip
    intro H locs ls hI hl
    refine lv_iconst (v := (0 : Int32)) hx hb dX7_owesBy_140 (by decide) ?_
    refine lv_iload hx hb dX7_owesBy_141 (lv_at hl 0 rfl) ?_
    obtain ⟨x143, ex143, hf⟩ := obd hf
    refine tcallS (rest := []) hx hb hts hown hml hl.1 (mX7_greater (0 : Int32) e6 _ ex143) (cwX7_greater hts ⟨Nat.le_of_ble_eq_true rfl, Nat.le_of_ble_eq_true rfl⟩) ⟨Nat.le_of_ble_eq_true rfl, Nat.le_of_ble_eq_true rfl⟩ rfl rfl (lv_room (Nat.le_of_ble_eq_true rfl)) dX7_owesBy_143 ?_
    have hf := Option.some.inj hf
    rw [hf]
    exact hret H locs 146 ls hI dX7_owesBy_146
theorem cwX7_owesBy {R : Room} {s : State} {args : Array Value} {fr lo : Nat} (hts : ∀ w ∈ lw_all, w.before args s = true) (hR : fr + 1 ≤ R.frames ∧ 8 + (6 + 11) + lo ≤ R.locals) : CallW R s args RX7 RX7 375 yX7_owesBy cX7_owesBy 6 (some .int) (ws_ yX7_owesBy cX7_owesBy 6 (some .int)) ({ frames := fr, cells := 0, slots := 0, locals := lo }) 0 0 3 :=
  cwV 3 hts (lw_V q2624 q2626 qs124 q143 q2627) rfl rfl rfl (by decide +kernel) hR

def X7_owes_J31 (τ : Mm) (a1 : Int32) (a2 : Int32) (y0 : Int32) : Option (Int32 × Mm) :=
  (some (mup τ 10 0 y0)).bind fun t31 =>
  if (t31 10 0) ≤ (0 : Int32) then
    (X7_owesBy t31 a1 a2 (-1 : Int32)).bind fun x49 =>
    some (x49, t31)
  else
    some ((0 : Int32), t31)
def X7_owes_J17 (τ : Mm) (a1 : Int32) (a2 : Int32) : Option (Int32 × Mm) :=
  X7_owes_J31 τ a1 a2 (1 : Int32)
def X7_owes (τ : Mm) (a1 : Int32) (a2 : Int32) : Option (Int32 × Mm) :=
  (X7_isParty τ a1).bind fun x3 =>
  if x3 = (0 : Int32) then
    X7_owes_J17 τ a1 a2
  else
    (X7_isParty τ a2).bind fun x11 =>
    if x11 = (0 : Int32) then
      X7_owes_J17 τ a1 a2
    else
      if a1 = a2 then
        X7_owes_J31 τ a1 a2 (2 : Int32)
      else
        X7_owes_J31 τ a1 a2 (0 : Int32)
set_option maxHeartbeats 4000000 in
theorem mX7_owes (τ : Mm) (a1 : Int32) (a2 : Int32) (r : Int32) (τ' : Mm) (hf : X7_owes τ a1 a2 = some (r, τ')) : TMi yX7_owes cX7_owes 3 (some .int) 5 131 (fun aK => [.int a1, .int a2]) r τ τ' := by
  refine TMi.of (by decide) rfl (fun _ _ => Nat.le_of_ble_eq_true rfl) ?_
  intro p l e s m args below meth c D cI cZ o z aK aV Q ls hz hx hb hml hown hts hE hret hI hl
  obtain ⟨H, eH⟩ : ∃ H, H = s.heap := ⟨_, rfl⟩
  obtain ⟨locs, eL⟩ : ∃ L : List Loc, L = [] := ⟨_, rfl⟩
  rw [← eH, ← eL] at hI ⊢
  have hl : lv_has ls 3 [(0, .ref o), (1, .int a1), (2, .int a2)] := hl
  unfold X7_owes at hf
  have hJ31 : ∀ (τ : Mm) (y0 : Int32) (H : Heap) (locs : List Loc) (ls : Array Slot), X7_owes_J31 τ a1 a2 y0 = some (r, τ') → IT D cI cZ o s H locs τ → lv_has ls 3 [(0, .ref o), (1, .int a1), (2, .int a2)] → W p l e ({ frames := 5, cells := 0, slots := 0, locals := 131 } : Room) s m args below meth c H locs 0 0 Q (F0 m 31 ls [.int y0, .ref o]) := by
    intro τ y0 H locs ls hf hI hl
    unfold X7_owes_J31 at hf
    obtain ⟨t31, et31, hf⟩ := obd hf
    refine tput hx hb hts hown hE hI 0 (by decide) q2100 rfl (tyX7_ok 0 (by decide)) rfl rfl rfl et31 dX7_owes_31 (fun H locs hI => ?_)
    refine lv_aload_n hx hb dX7_owes_34 rfl (lv_at hl 0 rfl) ?_
    refine tget hx hb hts hown hE hI 0 (by decide) q2100 rfl dX7_owes_35 ?_
    refine lv_if_le (tgt := 45) hx hb dX7_owes_38 (by decide) (fun hc => ?_) (fun hc => ?_)
    · replace hf := ipos hc hf
      refine lv_aload_n hx hb dX7_owes_45 rfl (lv_at hl 0 rfl) ?_
      refine lv_iload_n hx hb dX7_owes_46 rfl (lv_at hl 1 rfl) ?_
      refine lv_iload_n hx hb dX7_owes_47 rfl (lv_at hl 2 rfl) ?_
      refine lv_iconst (v := (-1 : Int32)) hx hb dX7_owes_48 (by decide) ?_
      obtain ⟨x49, ex49, hf⟩ := obd hf
      refine tcallI (rest := []) hx hb hts hown hE hz hI hml hl.1 (mX7_owesBy t31 a1 a2 (-1 : Int32) _ ex49) (cwX7_owesBy hts ⟨Nat.le_of_ble_eq_true rfl, Nat.le_of_ble_eq_true rfl⟩) ⟨Nat.le_of_ble_eq_true rfl, Nat.le_of_ble_eq_true rfl⟩ rfl rfl (lv_room (Nat.le_of_ble_eq_true rfl)) dX7_owes_49 (fun H locs hI => ?_)
      have hf := Prod.mk.inj (Option.some.inj hf)
      rw [hf.1]
      exact hret H locs 52 ls (hf.2 ▸ hI) dX7_owes_52
    · replace hf := ineg hc hf
      refine lv_iconst (v := (0 : Int32)) hx hb dX7_owes_41 (by decide) ?_
      refine lv_goto (tgt := 52) hx hb dX7_owes_42 (by decide) ?_
      have hf := Prod.mk.inj (Option.some.inj hf)
      rw [hf.1]
      exact hret H locs 52 ls (hf.2 ▸ hI) dX7_owes_52
  have hJ17 : ∀ (τ : Mm) (H : Heap) (locs : List Loc) (ls : Array Slot), X7_owes_J17 τ a1 a2 = some (r, τ') → IT D cI cZ o s H locs τ → lv_has ls 3 [(0, .ref o), (1, .int a1), (2, .int a2)] → W p l e ({ frames := 5, cells := 0, slots := 0, locals := 131 } : Room) s m args below meth c H locs 0 0 Q (F0 m 17 ls [.ref o]) := by
    intro τ  H locs ls hf hI hl
    unfold X7_owes_J17 at hf
    refine lv_iconst (v := (1 : Int32)) hx hb dX7_owes_17 (by decide) ?_
    refine lv_goto (tgt := 31) hx hb dX7_owes_18 (by decide) ?_
    exact hJ31 τ (1 : Int32) H locs ls hf hI  (lv_sub hl [0, 1, 2] rfl)
  refine lv_aload_n hx hb dX7_owes_0 rfl (lv_at hl 0 rfl) ?_
  refine lv_aload_n hx hb dX7_owes_1 rfl (lv_at hl 0 rfl) ?_
  refine lv_iload_n hx hb dX7_owes_2 rfl (lv_at hl 1 rfl) ?_
  obtain ⟨x3, ex3, hf⟩ := obd hf
  refine tcallI (rest := [.ref o]) hx hb hts hown hE hz hI hml hl.1 (mX7_isParty τ a1 _ ex3) (cwX7_isParty hts ⟨Nat.le_of_ble_eq_true rfl, Nat.le_of_ble_eq_true rfl⟩) ⟨Nat.le_of_ble_eq_true rfl, Nat.le_of_ble_eq_true rfl⟩ rfl rfl (lv_room (Nat.le_of_ble_eq_true rfl)) dX7_owes_3 (fun H locs hI => ?_)
  refine lv_if_eq (tgt := 17) hx hb dX7_owes_6 (by decide) (fun hc => ?_) (fun hc => ?_)
  · replace hf := ipos hc hf
    exact hJ17 τ H locs ls hf hI  (lv_sub hl [0, 1, 2] rfl)
  · replace hf := ineg hc hf
    refine lv_aload_n hx hb dX7_owes_9 rfl (lv_at hl 0 rfl) ?_
    refine lv_iload_n hx hb dX7_owes_10 rfl (lv_at hl 2 rfl) ?_
    obtain ⟨x11, ex11, hf⟩ := obd hf
    refine tcallI (rest := [.ref o]) hx hb hts hown hE hz hI hml hl.1 (mX7_isParty τ a2 _ ex11) (cwX7_isParty hts ⟨Nat.le_of_ble_eq_true rfl, Nat.le_of_ble_eq_true rfl⟩) ⟨Nat.le_of_ble_eq_true rfl, Nat.le_of_ble_eq_true rfl⟩ rfl rfl (lv_room (Nat.le_of_ble_eq_true rfl)) dX7_owes_11 (fun H locs hI => ?_)
    refine lv_if_ne (tgt := 21) hx hb dX7_owes_14 (by decide) (fun hc => ?_) (fun hc => ?_)
    · replace hf := ineg hc hf
      refine lv_iload_n hx hb dX7_owes_21 rfl (lv_at hl 1 rfl) ?_
      refine lv_iload_n hx hb dX7_owes_22 rfl (lv_at hl 2 rfl) ?_
      refine lv_icmp_ne (tgt := 30) hx hb dX7_owes_23 (by decide) (fun hc => ?_) (fun hc => ?_)
      · replace hf := ineg hc hf
        refine lv_iconst (v := (0 : Int32)) hx hb dX7_owes_30 (by decide) ?_
        exact hJ31 τ (0 : Int32) H locs ls hf hI  (lv_sub hl [0, 1, 2] rfl)
      · replace hf := ipos hc hf
        refine lv_iconst (v := (2 : Int32)) hx hb dX7_owes_26 (by decide) ?_
        refine lv_goto (tgt := 31) hx hb dX7_owes_27 (by decide) ?_
        exact hJ31 τ (2 : Int32) H locs ls hf hI  (lv_sub hl [0, 1, 2] rfl)
    · replace hf := ipos hc hf
      exact hJ17 τ H locs ls hf hI  (lv_sub hl [0, 1, 2] rfl)


def X7_clearedBy_L20 (τ : Mm) (c1 : Int32) (c2 : Int32) (c3 : Int32) (w20 : Int32 × Int32) : Option ((Int32 × Int32) ⊕ (Int32)) :=
  if (τ 0 3) ≤ w20.2 then
    some (.inr w20.1)
  else
    if w20.2 = c3 then
      (some (w20.1 + (0 : Int32))).bind fun v61_5 =>
      (some (w20.2 + (1 : Int32))).bind fun v63_6 =>
      some (.inl (v61_5, v63_6))
    else
      (X7_owesBy τ c3 w20.2 c1).bind fun x48 =>
      (X7_owesBy τ w20.2 c3 c1).bind fun x56 =>
      (some (w20.1 + (x48 - x56))).bind fun v61 =>
      (some (w20.2 + (1 : Int32))).bind fun v63 =>
      some (.inl (v61, v63))
def X7_clearedBy_L4 (τ : Mm) (c1 : Int32) (w4 : Int32 × Int32) : Option ((Int32 × Int32) ⊕ (Int32)) :=
  if (τ 0 3) ≤ w4.2 then
    some (.inr w4.1)
  else
    (loopO (X7_clearedBy_L20 τ c1 w4.1 w4.2) FU ((0 : Int32), (0 : Int32))).bind fun e20 =>
    (X7_greater (0 : Int32) e20).bind fun x73 =>
    (some (w4.1 + x73)).bind fun v77 =>
    (some (w4.2 + (1 : Int32))).bind fun v78 =>
    some (.inl (v77, v78))
def X7_clearedBy (τ : Mm) (a1 : Int32) : Option (Int32) :=
  (loopO (X7_clearedBy_L4 τ a1) FU ((0 : Int32), (0 : Int32))).bind fun e4 =>
  some e4
set_option maxHeartbeats 4000000 in
theorem mX7_clearedBy (τ : Mm) (a1 : Int32) (r : Int32) (hf : X7_clearedBy τ a1 = some r) : TMi yX7_clearedBy cX7_clearedBy 6 (some .int) 5 131 (fun aK => [.int a1]) r τ τ := by
  refine TMi.of (by decide) rfl (fun _ _ => Nat.le_of_ble_eq_true rfl) ?_
  intro p l e s m args below meth c D cI cZ o z aK aV Q ls hz hx hb hml hown hts hE hret hI hl
  obtain ⟨H, eH⟩ : ∃ H, H = s.heap := ⟨_, rfl⟩
  obtain ⟨locs, eL⟩ : ∃ L : List Loc, L = [] := ⟨_, rfl⟩
  rw [← eH, ← eL] at hI ⊢
  have hl : lv_has ls 6 [(0, .ref o), (1, .int a1)] := hl
  unfold X7_clearedBy at hf
  refine lv_iconst (v := (0 : Int32)) hx hb dX7_clearedBy_0 (by decide) ?_
  refine lv_istore_n (lv' := [(2, .int (0 : Int32)), (0, .ref o), (1, .int a1)]) hx hb dX7_clearedBy_1 rfl hl (by decide) rfl (fun ls hl => ?_)
  refine lv_iconst (v := (0 : Int32)) hx hb dX7_clearedBy_2 (by decide) ?_
  refine lv_istore_n (lv' := [(3, .int (0 : Int32)), (2, .int (0 : Int32)), (0, .ref o), (1, .int a1)]) hx hb dX7_clearedBy_3 rfl hl (by decide) rfl (fun ls hl => ?_)
  obtain ⟨e4, he4, hf⟩ := obd hf
  have hs4 : ∀ (c1 : Int32), ∀ (w4 : Int32 × Int32) (o4 : (Int32 × Int32) ⊕ (Int32)), X7_clearedBy_L4 τ c1 w4 = some o4 → (∀ wx_, o4 = .inl wx_ → ∀ (H : Heap) (locs : List Loc) (ls : Array Slot), IT D cI cZ o s H locs τ → lv_has ls 6 [(0, .ref o), (1, .int c1), (2, .int wx_.1), (3, .int wx_.2)] → W p l e ({ frames := 5, cells := 0, slots := 0, locals := 131 } : Room) s m args below meth c H locs 0 0 Q (F0 m 4 ls [])) → (∀ ex_, o4 = .inr ex_ → ∀ (H : Heap) (locs : List Loc) (ls : Array Slot), IT D cI cZ o s H locs τ → lv_has ls 6 [(2, .int ex_)] → W p l e ({ frames := 5, cells := 0, slots := 0, locals := 131 } : Room) s m args below meth c H locs 0 0 Q (F0 m 84 ls [])) → ∀ (H : Heap) (locs : List Loc) (ls : Array Slot), IT D cI cZ o s H locs τ → lv_has ls 6 [(0, .ref o), (1, .int c1), (2, .int w4.1), (3, .int w4.2)] → W p l e ({ frames := 5, cells := 0, slots := 0, locals := 131 } : Room) s m args below meth c H locs 0 0 Q (F0 m 4 ls []) := by
    intro c1 w4 o4 hf hk hq H locs ls hI hl
    unfold X7_clearedBy_L4 at hf
    refine lv_iload_n hx hb dX7_clearedBy_4 rfl (lv_at hl 3 rfl) ?_
    refine lv_aload_n hx hb dX7_clearedBy_5 rfl (lv_at hl 0 rfl) ?_
    refine tget hx hb hts hown hE hI 1 (by decide) q2101 rfl dX7_clearedBy_6 ?_
    refine lv_iconst (v := (3 : Int32)) hx hb dX7_clearedBy_9 (by decide) ?_
    refine taldc hx hb hE hI 1 781 3 rfl (by decide) (by decide) dX7_clearedBy_10 ?_
    refine lv_icmp_ge (tgt := 84) hx hb dX7_clearedBy_11 (by decide) (fun hc => ?_) (fun hc => ?_)
    · replace hf := ipos hc hf
      exact hq _ (Option.some.inj hf).symm H locs ls hI (lv_sub hl [2] rfl)
    · replace hf := ineg hc hf
      refine lv_iconst (v := (0 : Int32)) hx hb dX7_clearedBy_14 (by decide) ?_
      refine lv_istore (lv' := [(4, .int (0 : Int32)), (0, .ref o), (1, .int c1), (2, .int w4.1), (3, .int w4.2)]) hx hb dX7_clearedBy_15 hl (by decide) rfl (fun ls hl => ?_)
      refine lv_iconst (v := (0 : Int32)) hx hb dX7_clearedBy_17 (by decide) ?_
      refine lv_istore (lv' := [(5, .int (0 : Int32)), (4, .int (0 : Int32)), (0, .ref o), (1, .int c1), (2, .int w4.1), (3, .int w4.2)]) hx hb dX7_clearedBy_18 hl (by decide) rfl (fun ls hl => ?_)
      obtain ⟨e20, he20, hf⟩ := obd hf
      have hs20 : ∀ (c1 : Int32) (c2 : Int32) (c3 : Int32), ∀ (w20 : Int32 × Int32) (o20 : (Int32 × Int32) ⊕ (Int32)), X7_clearedBy_L20 τ c1 c2 c3 w20 = some o20 → (∀ wx_, o20 = .inl wx_ → ∀ (H : Heap) (locs : List Loc) (ls : Array Slot), IT D cI cZ o s H locs τ → lv_has ls 6 [(0, .ref o), (1, .int c1), (2, .int c2), (3, .int c3), (4, .int wx_.1), (5, .int wx_.2)] → W p l e ({ frames := 5, cells := 0, slots := 0, locals := 131 } : Room) s m args below meth c H locs 0 0 Q (F0 m 20 ls [])) → (∀ ex_, o20 = .inr ex_ → ∀ (H : Heap) (locs : List Loc) (ls : Array Slot), IT D cI cZ o s H locs τ → lv_has ls 6 [(0, .ref o), (1, .int c1), (2, .int c2), (3, .int c3), (4, .int ex_)] → W p l e ({ frames := 5, cells := 0, slots := 0, locals := 131 } : Room) s m args below meth c H locs 0 0 Q (F0 m 69 ls [])) → ∀ (H : Heap) (locs : List Loc) (ls : Array Slot), IT D cI cZ o s H locs τ → lv_has ls 6 [(0, .ref o), (1, .int c1), (2, .int c2), (3, .int c3), (4, .int w20.1), (5, .int w20.2)] → W p l e ({ frames := 5, cells := 0, slots := 0, locals := 131 } : Room) s m args below meth c H locs 0 0 Q (F0 m 20 ls []) := by
        intro c1 c2 c3 w20 o20 hf hk hq H locs ls hI hl
        unfold X7_clearedBy_L20 at hf
        refine lv_iload hx hb dX7_clearedBy_20 (lv_at hl 5 rfl) ?_
        refine lv_aload_n hx hb dX7_clearedBy_22 rfl (lv_at hl 0 rfl) ?_
        refine tget hx hb hts hown hE hI 1 (by decide) q2101 rfl dX7_clearedBy_23 ?_
        refine lv_iconst (v := (3 : Int32)) hx hb dX7_clearedBy_26 (by decide) ?_
        refine taldc hx hb hE hI 1 781 3 rfl (by decide) (by decide) dX7_clearedBy_27 ?_
        refine lv_icmp_ge (tgt := 69) hx hb dX7_clearedBy_28 (by decide) (fun hc => ?_) (fun hc => ?_)
        · replace hf := ipos hc hf
          exact hq _ (Option.some.inj hf).symm H locs ls hI (lv_sub hl [0, 1, 2, 3, 4] rfl)
        · replace hf := ineg hc hf
          refine lv_iload hx hb dX7_clearedBy_31 (lv_at hl 4 rfl) ?_
          refine lv_iload hx hb dX7_clearedBy_33 (lv_at hl 5 rfl) ?_
          refine lv_iload_n hx hb dX7_clearedBy_35 rfl (lv_at hl 3 rfl) ?_
          refine lv_icmp_ne (tgt := 43) hx hb dX7_clearedBy_36 (by decide) (fun hc => ?_) (fun hc => ?_)
          · replace hf := ineg hc hf
            refine lv_aload_n hx hb dX7_clearedBy_43 rfl (lv_at hl 0 rfl) ?_
            refine lv_iload_n hx hb dX7_clearedBy_44 rfl (lv_at hl 3 rfl) ?_
            refine lv_iload hx hb dX7_clearedBy_45 (lv_at hl 5 rfl) ?_
            refine lv_iload_n hx hb dX7_clearedBy_47 rfl (lv_at hl 1 rfl) ?_
            obtain ⟨x48, ex48, hf⟩ := obd hf
            refine tcallI (rest := [.int w20.1]) hx hb hts hown hE hz hI hml hl.1 (mX7_owesBy τ c3 w20.2 c1 _ ex48) (cwX7_owesBy hts ⟨Nat.le_of_ble_eq_true rfl, Nat.le_of_ble_eq_true rfl⟩) ⟨Nat.le_of_ble_eq_true rfl, Nat.le_of_ble_eq_true rfl⟩ rfl rfl (lv_room (Nat.le_of_ble_eq_true rfl)) dX7_clearedBy_48 (fun H locs hI => ?_)
            refine lv_aload_n hx hb dX7_clearedBy_51 rfl (lv_at hl 0 rfl) ?_
            refine lv_iload hx hb dX7_clearedBy_52 (lv_at hl 5 rfl) ?_
            refine lv_iload_n hx hb dX7_clearedBy_54 rfl (lv_at hl 3 rfl) ?_
            refine lv_iload_n hx hb dX7_clearedBy_55 rfl (lv_at hl 1 rfl) ?_
            obtain ⟨x56, ex56, hf⟩ := obd hf
            refine tcallI (rest := [.int x48, .int w20.1]) hx hb hts hown hE hz hI hml hl.1 (mX7_owesBy τ w20.2 c3 c1 _ ex56) (cwX7_owesBy hts ⟨Nat.le_of_ble_eq_true rfl, Nat.le_of_ble_eq_true rfl⟩) ⟨Nat.le_of_ble_eq_true rfl, Nat.le_of_ble_eq_true rfl⟩ rfl rfl (lv_room (Nat.le_of_ble_eq_true rfl)) dX7_clearedBy_56 (fun H locs hI => ?_)
            refine lv_isub hx hb dX7_clearedBy_59 ?_
            refine lv_iadd hx hb dX7_clearedBy_60 ?_
            obtain ⟨v61, ev61, hf⟩ := obd hf
            refine nmI ev61 ?_
            refine lv_istore (lv' := [(4, .int v61), (0, .ref o), (1, .int c1), (2, .int c2), (3, .int c3), (5, .int w20.2)]) hx hb dX7_clearedBy_61 hl (by decide) rfl (fun ls hl => ?_)
            obtain ⟨v63, ev63, hf⟩ := obd hf
            refine lv_iinc (v := v63) (lv' := [(5, .int v63), (4, .int v61), (0, .ref o), (1, .int c1), (2, .int c2), (3, .int c3)]) hx hb dX7_clearedBy_63 hl (k := 5) rfl (iiE ev63 (by decide)) (by decide) rfl (fun ls hl => ?_)
            refine lv_goto (tgt := 20) hx hb dX7_clearedBy_66 (by decide) ?_
            exact hk _ (Option.some.inj hf).symm H locs ls hI (lv_sub hl [2, 3, 4, 5, 1, 0] rfl)
          · replace hf := ipos hc hf
            refine lv_iconst (v := (0 : Int32)) hx hb dX7_clearedBy_39 (by decide) ?_
            refine lv_goto (tgt := 60) hx hb dX7_clearedBy_40 (by decide) ?_
            refine lv_iadd hx hb dX7_clearedBy_60 ?_
            obtain ⟨v61_5, ev61_5, hf⟩ := obd hf
            refine nmI ev61_5 ?_
            refine lv_istore (lv' := [(4, .int v61_5), (0, .ref o), (1, .int c1), (2, .int c2), (3, .int c3), (5, .int w20.2)]) hx hb dX7_clearedBy_61 hl (by decide) rfl (fun ls hl => ?_)
            obtain ⟨v63_6, ev63_6, hf⟩ := obd hf
            refine lv_iinc (v := v63_6) (lv' := [(5, .int v63_6), (4, .int v61_5), (0, .ref o), (1, .int c1), (2, .int c2), (3, .int c3)]) hx hb dX7_clearedBy_63 hl (k := 5) rfl (iiE ev63_6 (by decide)) (by decide) rfl (fun ls hl => ?_)
            refine lv_goto (tgt := 20) hx hb dX7_clearedBy_66 (by decide) ?_
            exact hk _ (Option.some.inj hf).symm H locs ls hI (lv_sub hl [2, 3, 4, 5, 1, 0] rfl)
      refine loopO_W (Wat := fun w20 => ∀ (H : Heap) (locs : List Loc) (ls : Array Slot), IT D cI cZ o s H locs τ → lv_has ls 6 [(0, .ref o), (1, .int c1), (2, .int w4.1), (3, .int w4.2), (4, .int w20.1), (5, .int w20.2)] → W p l e ({ frames := 5, cells := 0, slots := 0, locals := 131 } : Room) s m args below meth c H locs 0 0 Q (F0 m 20 ls [])) (Wex := fun ex_ => ∀ (H : Heap) (locs : List Loc) (ls : Array Slot), IT D cI cZ o s H locs τ → lv_has ls 6 [(0, .ref o), (1, .int c1), (2, .int w4.1), (3, .int w4.2), (4, .int ex_)] → W p l e ({ frames := 5, cells := 0, slots := 0, locals := 131 } : Room) s m args below meth c H locs 0 0 Q (F0 m 69 ls [])) (hs20 c1 w4.1 w4.2) FU _ e20 he20 ?_ H locs ls hI (lv_sub hl [2, 3, 4, 5, 1, 0] rfl)
      · skip
        intro H locs ls hI hl
        refine lv_iload_n hx hb dX7_clearedBy_69 rfl (lv_at hl 2 rfl) ?_
        refine lv_iconst (v := (0 : Int32)) hx hb dX7_clearedBy_70 (by decide) ?_
        refine lv_iload hx hb dX7_clearedBy_71 (lv_at hl 4 rfl) ?_
        obtain ⟨x73, ex73, hf⟩ := obd hf
        refine tcallS (rest := [.int w4.1]) hx hb hts hown hml hl.1 (mX7_greater (0 : Int32) e20 _ ex73) (cwX7_greater hts ⟨Nat.le_of_ble_eq_true rfl, Nat.le_of_ble_eq_true rfl⟩) ⟨Nat.le_of_ble_eq_true rfl, Nat.le_of_ble_eq_true rfl⟩ rfl rfl (lv_room (Nat.le_of_ble_eq_true rfl)) dX7_clearedBy_73 ?_
        refine lv_iadd hx hb dX7_clearedBy_76 ?_
        obtain ⟨v77, ev77, hf⟩ := obd hf
        refine nmI ev77 ?_
        refine lv_istore_n (lv' := [(2, .int v77), (0, .ref o), (1, .int c1), (3, .int w4.2), (4, .int e20)]) hx hb dX7_clearedBy_77 rfl hl (by decide) rfl (fun ls hl => ?_)
        obtain ⟨v78, ev78, hf⟩ := obd hf
        refine lv_iinc (v := v78) (lv' := [(3, .int v78), (2, .int v77), (0, .ref o), (1, .int c1), (4, .int e20)]) hx hb dX7_clearedBy_78 hl (k := 3) rfl (iiE ev78 (by decide)) (by decide) rfl (fun ls hl => ?_)
        refine lv_goto (tgt := 4) hx hb dX7_clearedBy_81 (by decide) ?_
        exact hk _ (Option.some.inj hf).symm H locs ls hI (lv_sub hl [2, 3, 1, 0] rfl)
  refine loopO_W (Wat := fun w4 => ∀ (H : Heap) (locs : List Loc) (ls : Array Slot), IT D cI cZ o s H locs τ → lv_has ls 6 [(0, .ref o), (1, .int a1), (2, .int w4.1), (3, .int w4.2)] → W p l e ({ frames := 5, cells := 0, slots := 0, locals := 131 } : Room) s m args below meth c H locs 0 0 Q (F0 m 4 ls [])) (Wex := fun ex_ => ∀ (H : Heap) (locs : List Loc) (ls : Array Slot), IT D cI cZ o s H locs τ → lv_has ls 6 [(2, .int ex_)] → W p l e ({ frames := 5, cells := 0, slots := 0, locals := 131 } : Room) s m args below meth c H locs 0 0 Q (F0 m 84 ls [])) (hs4 a1) FU _ e4 he4 ?_ H locs ls hI (lv_sub hl [2, 3, 1, 0] rfl)
  · skip
    intro H locs ls hI hl
    refine lv_iload_n hx hb dX7_clearedBy_84 rfl (lv_at hl 0 rfl) ?_
    have hf := Option.some.inj hf
    rw [hf]
    exact hret H locs 85 ls hI dX7_clearedBy_85
theorem cwX7_clearedBy {R : Room} {s : State} {args : Array Value} {fr lo : Nat} (hts : ∀ w ∈ lw_all, w.before args s = true) (hR : fr + 1 ≤ R.frames ∧ 8 + (6 + 11) + lo ≤ R.locals) : CallW R s args RX7 RX7 378 yX7_clearedBy cX7_clearedBy 6 (some .int) (ws_ yX7_clearedBy cX7_clearedBy 6 (some .int)) ({ frames := fr, cells := 0, slots := 0, locals := lo }) 0 0 1 :=
  cwV 1 hts (lw_V q2632 q2634 qs125 q143 q2635) rfl rfl rfl (by decide +kernel) hR
