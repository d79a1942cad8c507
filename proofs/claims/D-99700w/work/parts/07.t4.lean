def X7_cleared (τ : Mm) : Option (Int32 × Mm) :=
  (some (mup τ 10 0 (0 : Int32))).bind fun t2 =>
  (X7_clearedBy t2 (-1 : Int32)).bind fun x7 =>
  some (x7, t2)
set_option maxHeartbeats 4000000 in
theorem mX7_cleared (τ : Mm) (r : Int32) (τ' : Mm) (hf : X7_cleared τ = some (r, τ')) : TMi yX7_cleared cX7_cleared 1 (some .int) 6 156 (fun aK => []) r τ τ' := by
  refine TMi.of (by decide) rfl (fun _ _ => Nat.le_of_ble_eq_true rfl) ?_
  intro p l e s m args below meth c D cI cZ o z aK aV Q ls hz hx hb hml hown hts hE hret hI hl
  obtain ⟨H, eH⟩ : ∃ H, H = s.heap := ⟨_, rfl⟩
  obtain ⟨locs, eL⟩ : ∃ L : List Loc, L = [] := ⟨_, rfl⟩
  rw [← eH, ← eL] at hI ⊢
  have hl : lv_has ls 1 [(0, .ref o)] := hl
  unfold X7_cleared at hf
  refine lv_aload_n hx hb dX7_cleared_0 rfl (lv_at hl 0 rfl) ?_
  refine lv_iconst (v := (0 : Int32)) hx hb dX7_cleared_1 (by decide) ?_
  obtain ⟨t2, et2, hf⟩ := obd hf
  refine tput hx hb hts hown hE hI 0 (by decide) q2100 rfl (tyX7_ok 0 (by decide)) rfl rfl rfl et2 dX7_cleared_2 (fun H locs hI => ?_)
  refine lv_aload_n hx hb dX7_cleared_5 rfl (lv_at hl 0 rfl) ?_
  refine lv_iconst (v := (-1 : Int32)) hx hb dX7_cleared_6 (by decide) ?_
  obtain ⟨x7, ex7, hf⟩ := obd hf
  refine tcallI (rest := []) hx hb hts hown hE hz hI hml hl.1 (mX7_clearedBy t2 (-1 : Int32) _ ex7) (cwX7_clearedBy hts ⟨Nat.le_of_ble_eq_true rfl, Nat.le_of_ble_eq_true rfl⟩) ⟨Nat.le_of_ble_eq_true rfl, Nat.le_of_ble_eq_true rfl⟩ rfl rfl (lv_room (Nat.le_of_ble_eq_true rfl)) dX7_cleared_7 (fun H locs hI => ?_)
  have hf := Prod.mk.inj (Option.some.inj hf)
  rw [hf.1]
  exact hret H locs 10 ls (hf.2 ▸ hI) dX7_cleared_10


def X7_ring_L59 (τ : Mm) (c1 : Int32) (c2 : Int32) (c4 : Int32) (c5 : Int32) (w59 : Int32 × Int32) : Option ((Int32 × Int32) ⊕ (Int32)) :=
  if (τ 0 3) ≤ w59.2 then
    some (.inr w59.1)
  else
    (X7_isOf c2 c5).bind fun x73 =>
    if x73 = (0 : Int32) then
      (some (w59.2 + (1 : Int32))).bind fun v105 =>
      some (.inl (w59.1, v105))
    else
      if w59.2 = c5 then
        (some (w59.2 + (1 : Int32))).bind fun v105_5 =>
        some (.inl (w59.1, v105_5))
      else
        (X7_owesBy τ c5 w59.2 (-1 : Int32)).bind fun x92 =>
        if x92 ≤ (0 : Int32) then
          (some (w59.2 + (1 : Int32))).bind fun v105_7 =>
          some (.inl (w59.1, v105_7))
        else
          (some (w59.1 ||| ((1 : Int32) <<< (w59.2 &&& (31 : Int32))))).bind fun v104 =>
          (some (w59.2 + (1 : Int32))).bind fun v105_9 =>
          some (.inl (v104, v105_9))
def X7_ring_L45 (τ : Mm) (c1 : Int32) (c2 : Int32) (c4 : Int32) (w45 : Int32 × Int32) : Option ((Int32 × Int32) ⊕ (Int32)) :=
  if (τ 0 3) ≤ w45.2 then
    some (.inr w45.1)
  else
    (loopO (X7_ring_L59 τ c1 c2 c4 w45.2) FU (w45.1, (0 : Int32))).bind fun e59 =>
    (some (w45.2 + (1 : Int32))).bind fun v111 =>
    some (.inl (e59, v111))
def X7_ring_L35 (τ : Mm) (c1 : Int32) (w35 : Int32 × Int32 × Int32) : Option ((Int32 × Int32 × Int32) ⊕ (Int32)) :=
  if (6 : Int32) ≤ w35.2.2 then
    some (.inr w35.2.1)
  else
    (loopO (X7_ring_L45 τ c1 w35.1 w35.2.2) FU (w35.2.1, (0 : Int32))).bind fun e45 =>
    (some (w35.1 ||| e45)).bind fun v120 =>
    (some (w35.2.2 + (1 : Int32))).bind fun v121 =>
    some (.inl (v120, e45, v121))
def X7_ring_J14 (τ : Mm) (a1 : Int32) (y0 : Int32) : Option (Int32 × Mm) :=
  (some (mup τ 10 0 y0)).bind fun t14 =>
  if (t14 10 0) ≤ (0 : Int32) then
    (some ((1 : Int32) <<< (a1 &&& (31 : Int32)))).bind fun v29 =>
    (loopO (X7_ring_L35 t14 a1) FU (v29, (0 : Int32), (0 : Int32))).bind fun e35 =>
    (X7_isOf e35 a1).bind fun x129 =>
    (zb x129).bind fun _ =>
    some (x129, t14)
  else
    some ((0 : Int32), t14)
def X7_ring (τ : Mm) (a1 : Int32) : Option (Int32 × Mm) :=
  (X7_isParty τ a1).bind fun x3 =>
  if x3 = (0 : Int32) then
    X7_ring_J14 τ a1 (1 : Int32)
  else
    X7_ring_J14 τ a1 (0 : Int32)
set_option maxHeartbeats 4000000 in
theorem mX7_ring (τ : Mm) (a1 : Int32) (r : Int32) (τ' : Mm) (hf : X7_ring τ a1 = some (r, τ')) : TMi yX7_ring cX7_ring 7 (some .boolean) 5 131 (fun aK => [.int a1]) r τ τ' := by
  refine TMz.of (by decide) rfl (fun _ _ => Nat.le_of_ble_eq_true rfl) ?_
  intro p l e s m args below meth c D cI cZ o z aK aV Q ls hz hx hb hml hown hts hE hret hI hl
  obtain ⟨H, eH⟩ : ∃ H, H = s.heap := ⟨_, rfl⟩
  obtain ⟨locs, eL⟩ : ∃ L : List Loc, L = [] := ⟨_, rfl⟩
  rw [← eH, ← eL] at hI ⊢
  have hl : lv_has ls 7 [(0, .ref o), (1, .int a1)] := hl
  unfold X7_ring at hf
  have hJ14 : ∀ (τ : Mm) (y0 : Int32) (H : Heap) (locs : List Loc) (ls : Array Slot), X7_ring_J14 τ a1 y0 = some (r, τ') → IT D cI cZ o s H locs τ → lv_has ls 7 [(0, .ref o), (1, .int a1)] → W p l e ({ frames := 5, cells := 0, slots := 0, locals := 131 } : Room) s m args below meth c H locs 0 0 Q (F0 m 14 ls [.int y0, .ref o]) := by
    intro τ y0 H locs ls hf hI hl
    unfold X7_ring_J14 at hf
    obtain ⟨t14, et14, hf⟩ := obd hf
    refine tput hx hb hts hown hE hI 0 (by decide) q2100 rfl (tyX7_ok 0 (by decide)) rfl rfl rfl et14 dX7_ring_14 (fun H locs hI => ?_)
    refine lv_aload_n hx hb dX7_ring_17 rfl (lv_at hl 0 rfl) ?_
    refine tget hx hb hts hown hE hI 0 (by decide) q2100 rfl dX7_ring_18 ?_
    refine lv_if_le (tgt := 26) hx hb dX7_ring_21 (by decide) (fun hc => ?_) (fun hc => ?_)
    · replace hf := ipos hc hf
      refine lv_iconst (v := (1 : Int32)) hx hb dX7_ring_26 (by decide) ?_
      refine lv_iload_n hx hb dX7_ring_27 rfl (lv_at hl 1 rfl) ?_
      refine lv_ishl hx hb dX7_ring_28 ?_
      obtain ⟨v29, ev29, hf⟩ := obd hf
      refine nmI ev29 ?_
      refine lv_istore_n (lv' := [(2, .int v29), (0, .ref o), (1, .int a1)]) hx hb dX7_ring_29 rfl hl (by decide) rfl (fun ls hl => ?_)
      refine lv_iconst (v := (0 : Int32)) hx hb dX7_ring_30 (by decide) ?_
      refine lv_istore_n (lv' := [(3, .int (0 : Int32)), (2, .int v29), (0, .ref o), (1, .int a1)]) hx hb dX7_ring_31 rfl hl (by decide) rfl (fun ls hl => ?_)
      refine lv_iconst (v := (0 : Int32)) hx hb dX7_ring_32 (by decide) ?_
      refine lv_istore (lv' := [(4, .int (0 : Int32)), (3, .int (0 : Int32)), (2, .int v29), (0, .ref o), (1, .int a1)]) hx hb dX7_ring_33 hl (by decide) rfl (fun ls hl => ?_)
      obtain ⟨e35, he35, hf⟩ := obd hf
      have hs35 : ∀ (τ : Mm) (c1 : Int32), ∀ (w35 : Int32 × Int32 × Int32) (o35 : (Int32 × Int32 × Int32) ⊕ (Int32)), X7_ring_L35 τ c1 w35 = some o35 → (∀ wx_, o35 = .inl wx_ → ∀ (H : Heap) (locs : List Loc) (ls : Array Slot), IT D cI cZ o s H locs τ → lv_has ls 7 [(0, .ref o), (1, .int c1), (2, .int wx_.1), (3, .int wx_.2.1), (4, .int wx_.2.2)] → W p l e ({ frames := 5, cells := 0, slots := 0, locals := 131 } : Room) s m args below meth c H locs 0 0 Q (F0 m 35 ls [])) → (∀ ex_, o35 = .inr ex_ → ∀ (H : Heap) (locs : List Loc) (ls : Array Slot), IT D cI cZ o s H locs τ → lv_has ls 7 [(1, .int c1), (3, .int ex_)] → W p l e ({ frames := 5, cells := 0, slots := 0, locals := 131 } : Room) s m args below meth c H locs 0 0 Q (F0 m 127 ls [])) → ∀ (H : Heap) (locs : List Loc) (ls : Array Slot), IT D cI cZ o s H locs τ → lv_has ls 7 [(0, .ref o), (1, .int c1), (2, .int w35.1), (3, .int w35.2.1), (4, .int w35.2.2)] → W p l e ({ frames := 5, cells := 0, slots := 0, locals := 131 } : Room) s m args below meth c H locs 0 0 Q (F0 m 35 ls []) := by
        intro τ c1 w35 o35 hf hk hq H locs ls hI hl
        unfold X7_ring_L35 at hf
        refine lv_iload hx hb dX7_ring_35 (lv_at hl 4 rfl) ?_
        refine lv_bipush (v := (6 : Int32)) hx hb dX7_ring_37 (by decide) ?_
        refine lv_icmp_ge (tgt := 127) hx hb dX7_ring_39 (by decide) (fun hc => ?_) (fun hc => ?_)
        · replace hf := ipos hc hf
          exact hq _ (Option.some.inj hf).symm H locs ls hI (lv_sub hl [1, 3] rfl)
        · replace hf := ineg hc hf
          refine lv_iconst (v := (0 : Int32)) hx hb dX7_ring_42 (by decide) ?_
          refine lv_istore (lv' := [(5, .int (0 : Int32)), (0, .ref o), (1, .int c1), (2, .int w35.1), (3, .int w35.2.1), (4, .int w35.2.2)]) hx hb dX7_ring_43 hl (by decide) rfl (fun ls hl => ?_)
          obtain ⟨e45, he45, hf⟩ := obd hf
          have hs45 : ∀ (τ : Mm) (c1 : Int32) (c2 : Int32) (c4 : Int32), ∀ (w45 : Int32 × Int32) (o45 : (Int32 × Int32) ⊕ (Int32)), X7_ring_L45 τ c1 c2 c4 w45 = some o45 → (∀ wx_, o45 = .inl wx_ → ∀ (H : Heap) (locs : List Loc) (ls : Array Slot), IT D cI cZ o s H locs τ → lv_has ls 7 [(0, .ref o), (1, .int c1), (2, .int c2), (3, .int wx_.1), (4, .int c4), (5, .int wx_.2)] → W p l e ({ frames := 5, cells := 0, slots := 0, locals := 131 } : Room) s m args below meth c H locs 0 0 Q (F0 m 45 ls [])) → (∀ ex_, o45 = .inr ex_ → ∀ (H : Heap) (locs : List Loc) (ls : Array Slot), IT D cI cZ o s H locs τ → lv_has ls 7 [(0, .ref o), (1, .int c1), (2, .int c2), (3, .int ex_), (4, .int c4)] → W p l e ({ frames := 5, cells := 0, slots := 0, locals := 131 } : Room) s m args below meth c H locs 0 0 Q (F0 m 117 ls [])) → ∀ (H : Heap) (locs : List Loc) (ls : Array Slot), IT D cI cZ o s H locs τ → lv_has ls 7 [(0, .ref o), (1, .int c1), (2, .int c2), (3, .int w45.1), (4, .int c4), (5, .int w45.2)] → W p l e ({ frames := 5, cells := 0, slots := 0, locals := 131 } : Room) s m args below meth c H locs 0 0 Q (F0 m 45 ls []) := by
            intro τ c1 c2 c4 w45 o45 hf hk hq H locs ls hI hl
            unfold X7_ring_L45 at hf
            refine lv_iload hx hb dX7_ring_45 (lv_at hl 5 rfl) ?_
            refine lv_aload_n hx hb dX7_ring_47 rfl (lv_at hl 0 rfl) ?_
            refine tget hx hb hts hown hE hI 1 (by decide) q2101 rfl dX7_ring_48 ?_
            refine lv_iconst (v := (3 : Int32)) hx hb dX7_ring_51 (by decide) ?_
            refine taldc hx hb hE hI 1 781 3 rfl (by decide) (by decide) dX7_ring_52 ?_
            refine lv_icmp_ge (tgt := 117) hx hb dX7_ring_53 (by decide) (fun hc => ?_) (fun hc => ?_)
            · replace hf := ipos hc hf
              exact hq _ (Option.some.inj hf).symm H locs ls hI (lv_sub hl [0, 1, 2, 3, 4] rfl)
            · replace hf := ineg hc hf
              refine lv_iconst (v := (0 : Int32)) hx hb dX7_ring_56 (by decide) ?_
              refine lv_istore (lv' := [(6, .int (0 : Int32)), (0, .ref o), (1, .int c1), (2, .int c2), (3, .int w45.1), (4, .int c4), (5, .int w45.2)]) hx hb dX7_ring_57 hl (by decide) rfl (fun ls hl => ?_)
              obtain ⟨e59, he59, hf⟩ := obd hf
              have hs59 : ∀ (τ : Mm) (c1 : Int32) (c2 : Int32) (c4 : Int32) (c5 : Int32), ∀ (w59 : Int32 × Int32) (o59 : (Int32 × Int32) ⊕ (Int32)), X7_ring_L59 τ c1 c2 c4 c5 w59 = some o59 → (∀ wx_, o59 = .inl wx_ → ∀ (H : Heap) (locs : List Loc) (ls : Array Slot), IT D cI cZ o s H locs τ → lv_has ls 7 [(0, .ref o), (1, .int c1), (2, .int c2), (3, .int wx_.1), (4, .int c4), (5, .int c5), (6, .int wx_.2)] → W p l e ({ frames := 5, cells := 0, slots := 0, locals := 131 } : Room) s m args below meth c H locs 0 0 Q (F0 m 59 ls [])) → (∀ ex_, o59 = .inr ex_ → ∀ (H : Heap) (locs : List Loc) (ls : Array Slot), IT D cI cZ o s H locs τ → lv_has ls 7 [(0, .ref o), (1, .int c1), (2, .int c2), (3, .int ex_), (4, .int c4), (5, .int c5)] → W p l e ({ frames := 5, cells := 0, slots := 0, locals := 131 } : Room) s m args below meth c H locs 0 0 Q (F0 m 111 ls [])) → ∀ (H : Heap) (locs : List Loc) (ls : Array Slot), IT D cI cZ o s H locs τ → lv_has ls 7 [(0, .ref o), (1, .int c1), (2, .int c2), (3, .int w59.1), (4, .int c4), (5, .int c5), (6, .int w59.2)] → W p l e ({ frames := 5, cells := 0, slots := 0, locals := 131 } : Room) s m args below meth c H locs 0 0 Q (F0 m 59 ls []) := by
                intro τ c1 c2 c4 c5 w59 o59 hf hk hq H locs ls hI hl
                unfold X7_ring_L59 at hf
                refine lv_iload hx hb dX7_ring_59 (lv_at hl 6 rfl) ?_
                refine lv_aload_n hx hb dX7_ring_61 rfl (lv_at hl 0 rfl) ?_
                refine tget hx hb hts hown hE hI 1 (by decide) q2101 rfl dX7_ring_62 ?_
                refine lv_iconst (v := (3 : Int32)) hx hb dX7_ring_65 (by decide) ?_
                refine taldc hx hb hE hI 1 781 3 rfl (by decide) (by decide) dX7_ring_66 ?_
                refine lv_icmp_ge (tgt := 111) hx hb dX7_ring_67 (by decide) (fun hc => ?_) (fun hc => ?_)
                · replace hf := ipos hc hf
                  exact hq _ (Option.some.inj hf).symm H locs ls hI (lv_sub hl [0, 1, 2, 3, 4, 5] rfl)
                · replace hf := ineg hc hf
                  refine lv_iload_n hx hb dX7_ring_70 rfl (lv_at hl 2 rfl) ?_
                  refine lv_iload hx hb dX7_ring_71 (lv_at hl 5 rfl) ?_
                  obtain ⟨x73, ex73, hf⟩ := obd hf
                  refine tcallS (rest := []) hx hb hts hown hml hl.1 (mX7_isOf c2 c5 _ ex73) (cwX7_isOf hts ⟨Nat.le_of_ble_eq_true rfl, Nat.le_of_ble_eq_true rfl⟩) ⟨Nat.le_of_ble_eq_true rfl, Nat.le_of_ble_eq_true rfl⟩ rfl rfl (lv_room (Nat.le_of_ble_eq_true rfl)) dX7_ring_73 ?_
                  refine lv_if_eq (tgt := 105) hx hb dX7_ring_76 (by decide) (fun hc => ?_) (fun hc => ?_)
                  · replace hf := ipos hc hf
                    obtain ⟨v105, ev105, hf⟩ := obd hf
                    refine lv_iinc (v := v105) (lv' := [(6, .int v105), (0, .ref o), (1, .int c1), (2, .int c2), (3, .int w59.1), (4, .int c4), (5, .int c5)]) hx hb dX7_ring_105 hl (k := 6) rfl (iiE ev105 (by decide)) (by decide) rfl (fun ls hl => ?_)
                    refine lv_goto (tgt := 59) hx hb dX7_ring_108 (by decide) ?_
                    exact hk _ (Option.some.inj hf).symm H locs ls hI (lv_sub hl [1, 2, 3, 4, 5, 6, 0] rfl)
                  · replace hf := ineg hc hf
                    refine lv_iload hx hb dX7_ring_79 (lv_at hl 6 rfl) ?_
                    refine lv_iload hx hb dX7_ring_81 (lv_at hl 5 rfl) ?_
                    refine lv_icmp_eq (tgt := 105) hx hb dX7_ring_83 (by decide) (fun hc => ?_) (fun hc => ?_)
                    · replace hf := ipos hc hf
                      obtain ⟨v105_5, ev105_5, hf⟩ := obd hf
                      refine lv_iinc (v := v105_5) (lv' := [(6, .int v105_5), (0, .ref o), (1, .int c1), (2, .int c2), (3, .int w59.1), (4, .int c4), (5, .int c5)]) hx hb dX7_ring_105 hl (k := 6) rfl (iiE ev105_5 (by decide)) (by decide) rfl (fun ls hl => ?_)
                      refine lv_goto (tgt := 59) hx hb dX7_ring_108 (by decide) ?_
                      exact hk _ (Option.some.inj hf).symm H locs ls hI (lv_sub hl [1, 2, 3, 4, 5, 6, 0] rfl)
                    · replace hf := ineg hc hf
                      refine lv_aload_n hx hb dX7_ring_86 rfl (lv_at hl 0 rfl) ?_
                      refine lv_iload hx hb dX7_ring_87 (lv_at hl 5 rfl) ?_
                      refine lv_iload hx hb dX7_ring_89 (lv_at hl 6 rfl) ?_
                      refine lv_iconst (v := (-1 : Int32)) hx hb dX7_ring_91 (by decide) ?_
                      obtain ⟨x92, ex92, hf⟩ := obd hf
                      refine tcallI (rest := []) hx hb hts hown hE hz hI hml hl.1 (mX7_owesBy τ c5 w59.2 (-1 : Int32) _ ex92) (cwX7_owesBy hts ⟨Nat.le_of_ble_eq_true rfl, Nat.le_of_ble_eq_true rfl⟩) ⟨Nat.le_of_ble_eq_true rfl, Nat.le_of_ble_eq_true rfl⟩ rfl rfl (lv_room (Nat.le_of_ble_eq_true rfl)) dX7_ring_92 (fun H locs hI => ?_)
                      refine lv_if_le (tgt := 105) hx hb dX7_ring_95 (by decide) (fun hc => ?_) (fun hc => ?_)
                      · replace hf := ipos hc hf
                        obtain ⟨v105_7, ev105_7, hf⟩ := obd hf
                        refine lv_iinc (v := v105_7) (lv' := [(6, .int v105_7), (0, .ref o), (1, .int c1), (2, .int c2), (3, .int w59.1), (4, .int c4), (5, .int c5)]) hx hb dX7_ring_105 hl (k := 6) rfl (iiE ev105_7 (by decide)) (by decide) rfl (fun ls hl => ?_)
                        refine lv_goto (tgt := 59) hx hb dX7_ring_108 (by decide) ?_
                        exact hk _ (Option.some.inj hf).symm H locs ls hI (lv_sub hl [1, 2, 3, 4, 5, 6, 0] rfl)
                      · replace hf := ineg hc hf
                        refine lv_iload_n hx hb dX7_ring_98 rfl (lv_at hl 3 rfl) ?_
                        refine lv_iconst (v := (1 : Int32)) hx hb dX7_ring_99 (by decide) ?_
                        refine lv_iload hx hb dX7_ring_100 (lv_at hl 6 rfl) ?_
                        refine lv_ishl hx hb dX7_ring_102 ?_
                        refine lv_ior hx hb dX7_ring_103 ?_
                        obtain ⟨v104, ev104, hf⟩ := obd hf
                        refine nmI ev104 ?_
                        refine lv_istore_n (lv' := [(3, .int v104), (0, .ref o), (1, .int c1), (2, .int c2), (4, .int c4), (5, .int c5), (6, .int w59.2)]) hx hb dX7_ring_104 rfl hl (by decide) rfl (fun ls hl => ?_)
                        obtain ⟨v105_9, ev105_9, hf⟩ := obd hf
                        refine lv_iinc (v := v105_9) (lv' := [(6, .int v105_9), (3, .int v104), (0, .ref o), (1, .int c1), (2, .int c2), (4, .int c4), (5, .int c5)]) hx hb dX7_ring_105 hl (k := 6) rfl (iiE ev105_9 (by decide)) (by decide) rfl (fun ls hl => ?_)
                        refine lv_goto (tgt := 59) hx hb dX7_ring_108 (by decide) ?_
                        exact hk _ (Option.some.inj hf).symm H locs ls hI (lv_sub hl [2, 3, 4, 1, 5, 6, 0] rfl)
              refine loopO_W (Wat := fun w59 => ∀ (H : Heap) (locs : List Loc) (ls : Array Slot), IT D cI cZ o s H locs τ → lv_has ls 7 [(0, .ref o), (1, .int c1), (2, .int c2), (3, .int w59.1), (4, .int c4), (5, .int w45.2), (6, .int w59.2)] → W p l e ({ frames := 5, cells := 0, slots := 0, locals := 131 } : Room) s m args below meth c H locs 0 0 Q (F0 m 59 ls [])) (Wex := fun ex_ => ∀ (H : Heap) (locs : List Loc) (ls : Array Slot), IT D cI cZ o s H locs τ → lv_has ls 7 [(0, .ref o), (1, .int c1), (2, .int c2), (3, .int ex_), (4, .int c4), (5, .int w45.2)] → W p l e ({ frames := 5, cells := 0, slots := 0, locals := 131 } : Room) s m args below meth c H locs 0 0 Q (F0 m 111 ls [])) (hs59 τ c1 c2 c4 w45.2) FU _ e59 he59 ?_ H locs ls hI (lv_sub hl [1, 2, 3, 4, 5, 6, 0] rfl)
              · skip
                intro H locs ls hI hl
                obtain ⟨v111, ev111, hf⟩ := obd hf
                refine lv_iinc (v := v111) (lv' := [(5, .int v111), (0, .ref o), (1, .int c1), (2, .int c2), (3, .int e59), (4, .int c4)]) hx hb dX7_ring_111 hl (k := 5) rfl (iiE ev111 (by decide)) (by decide) rfl (fun ls hl => ?_)
                refine lv_goto (tgt := 45) hx hb dX7_ring_114 (by decide) ?_
                exact hk _ (Option.some.inj hf).symm H locs ls hI (lv_sub hl [1, 2, 3, 4, 5, 0] rfl)
          refine loopO_W (Wat := fun w45 => ∀ (H : Heap) (locs : List Loc) (ls : Array Slot), IT D cI cZ o s H locs τ → lv_has ls 7 [(0, .ref o), (1, .int c1), (2, .int w35.1), (3, .int w45.1), (4, .int w35.2.2), (5, .int w45.2)] → W p l e ({ frames := 5, cells := 0, slots := 0, locals := 131 } : Room) s m args below meth c H locs 0 0 Q (F0 m 45 ls [])) (Wex := fun ex_ => ∀ (H : Heap) (locs : List Loc) (ls : Array Slot), IT D cI cZ o s H locs τ → lv_has ls 7 [(0, .ref o), (1, .int c1), (2, .int w35.1), (3, .int ex_), (4, .int w35.2.2)] → W p l e ({ frames := 5, cells := 0, slots := 0, locals := 131 } : Room) s m args below meth c H locs 0 0 Q (F0 m 117 ls [])) (hs45 τ c1 w35.1 w35.2.2) FU _ e45 he45 ?_ H locs ls hI (lv_sub hl [1, 2, 3, 4, 5, 0] rfl)
          · skip
            intro H locs ls hI hl
            refine lv_iload_n hx hb dX7_ring_117 rfl (lv_at hl 2 rfl) ?_
            refine lv_iload_n hx hb dX7_ring_118 rfl (lv_at hl 3 rfl) ?_
            refine lv_ior hx hb dX7_ring_119 ?_
            obtain ⟨v120, ev120, hf⟩ := obd hf
            refine nmI ev120 ?_
            refine lv_istore_n (lv' := [(2, .int v120), (0, .ref o), (1, .int c1), (3, .int e45), (4, .int w35.2.2)]) hx hb dX7_ring_120 rfl hl (by decide) rfl (fun ls hl => ?_)
            obtain ⟨v121, ev121, hf⟩ := obd hf
            refine lv_iinc (v := v121) (lv' := [(4, .int v121), (2, .int v120), (0, .ref o), (1, .int c1), (3, .int e45)]) hx hb dX7_ring_121 hl (k := 4) rfl (iiE ev121 (by decide)) (by decide) rfl (fun ls hl => ?_)
            refine lv_goto (tgt := 35) hx hb dX7_ring_124 (by decide) ?_
            exact hk _ (Option.some.inj hf).symm H locs ls hI (lv_sub hl [2, 3, 1, 4, 0] rfl)
      refine loopO_W (Wat := fun w35 => ∀ (H : Heap) (locs : List Loc) (ls : Array Slot), IT D cI cZ o s H locs t14 → lv_has ls 7 [(0, .ref o), (1, .int a1), (2, .int w35.1), (3, .int w35.2.1), (4, .int w35.2.2)] → W p l e ({ frames := 5, cells := 0, slots := 0, locals := 131 } : Room) s m args below meth c H locs 0 0 Q (F0 m 35 ls [])) (Wex := fun ex_ => ∀ (H : Heap) (locs : List Loc) (ls : Array Slot), IT D cI cZ o s H locs t14 → lv_has ls 7 [(1, .int a1), (3, .int ex_)] → W p l e ({ frames := 5, cells := 0, slots := 0, locals := 131 } : Room) s m args below meth c H locs 0 0 Q (F0 m 127 ls [])) (hs35 t14 a1) FU _ e35 he35 ?_ H locs ls hI (lv_sub hl [3, 4, 2, 1, 0] rfl)
      · skip
        intro H locs ls hI hl
        refine lv_iload_n hx hb dX7_ring_127 rfl (lv_at hl 1 rfl) ?_
        refine lv_iload_n hx hb dX7_ring_128 rfl (lv_at hl 0 rfl) ?_
        obtain ⟨x129, ex129, hf⟩ := obd hf
        refine tcallS (rest := []) hx hb hts hown hml hl.1 (mX7_isOf e35 a1 _ ex129) (cwX7_isOf hts ⟨Nat.le_of_ble_eq_true rfl, Nat.le_of_ble_eq_true rfl⟩) ⟨Nat.le_of_ble_eq_true rfl, Nat.le_of_ble_eq_true rfl⟩ rfl rfl (lv_room (Nat.le_of_ble_eq_true rfl)) dX7_ring_129 ?_
        obtain ⟨_, eb132, hf⟩ := obd hf
        have hf := Prod.mk.inj (Option.some.inj hf)
        rw [hf.1]
        exact hret H locs 132 ls (hf.2 ▸ hI) (hf.1 ▸ (zb_e eb132).2) dX7_ring_132
    · replace hf := ineg hc hf
      refine lv_iconst (v := (0 : Int32)) hx hb dX7_ring_24 (by decide) ?_
      have hf := Prod.mk.inj (Option.some.inj hf)
      rw [hf.1]
      exact hret H locs 25 ls (hf.2 ▸ hI) (hf.1 ▸ (by decide)) dX7_ring_25
  refine lv_aload_n hx hb dX7_ring_0 rfl (lv_at hl 0 rfl) ?_
  refine lv_aload_n hx hb dX7_ring_1 rfl (lv_at hl 0 rfl) ?_
  refine lv_iload_n hx hb dX7_ring_2 rfl (lv_at hl 1 rfl) ?_
  obtain ⟨x3, ex3, hf⟩ := obd hf
  refine tcallI (rest := [.ref o]) hx hb hts hown hE hz hI hml hl.1 (mX7_isParty τ a1 _ ex3) (cwX7_isParty hts ⟨Nat.le_of_ble_eq_true rfl, Nat.le_of_ble_eq_true rfl⟩) ⟨Nat.le_of_ble_eq_true rfl, Nat.le_of_ble_eq_true rfl⟩ rfl rfl (lv_room (Nat.le_of_ble_eq_true rfl)) dX7_ring_3 (fun H locs hI => ?_)
  refine lv_if_ne (tgt := 13) hx hb dX7_ring_6 (by decide) (fun hc => ?_) (fun hc => ?_)
  · replace hf := ineg hc hf
    refine lv_iconst (v := (0 : Int32)) hx hb dX7_ring_13 (by decide) ?_
    exact hJ14 τ (0 : Int32) H locs ls hf hI  (lv_sub hl [0, 1] rfl)
  · replace hf := ipos hc hf
    refine lv_iconst (v := (1 : Int32)) hx hb dX7_ring_9 (by decide) ?_
    refine lv_goto (tgt := 14) hx hb dX7_ring_10 (by decide) ?_
    exact hJ14 τ (1 : Int32) H locs ls hf hI  (lv_sub hl [0, 1] rfl)


def X7_pivot_L9 (τ : Mm) (w9 : Int32 × Int32) : Option ((Int32 × Int32) ⊕ (Int32)) :=
  if (τ 0 3) ≤ w9.2 then
    some (.inr w9.1)
  else
    if w9.1 = (-1 : Int32) then
      (some (w9.2 + (1 : Int32))).bind fun v39 =>
      some (.inl (w9.2, v39))
    else
      (X7_clearedBy τ w9.2).bind fun x26 =>
      (X7_clearedBy τ w9.1).bind fun x31 =>
      if x31 ≤ x26 then
        (some (w9.2 + (1 : Int32))).bind fun v39_5 =>
        some (.inl (w9.1, v39_5))
      else
        (some (w9.2 + (1 : Int32))).bind fun v39_6 =>
        some (.inl (w9.2, v39_6))
def X7_pivot (τ : Mm) : Option (Int32 × Mm) :=
  (some (mup τ 10 0 (0 : Int32))).bind fun t2 =>
  (loopO (X7_pivot_L9 t2) FU ((-1 : Int32), (0 : Int32))).bind fun e9 =>
  some (e9, t2)
set_option maxHeartbeats 4000000 in
theorem mX7_pivot (τ : Mm) (r : Int32) (τ' : Mm) (hf : X7_pivot τ = some (r, τ')) : TMi yX7_pivot cX7_pivot 3 (some .int) 6 156 (fun aK => []) r τ τ' := by
  refine TMi.of (by decide) rfl (fun _ _ => Nat.le_of_ble_eq_true rfl) ?_
  intro p l e s m args below meth c D cI cZ o z aK aV Q ls hz hx hb hml hown hts hE hret hI hl
  obtain ⟨H, eH⟩ : ∃ H, H = s.heap := ⟨_, rfl⟩
  obtain ⟨locs, eL⟩ : ∃ L : List Loc, L = [] := ⟨_, rfl⟩
  rw [← eH, ← eL] at hI ⊢
  have hl : lv_has ls 3 [(0, .ref o)] := hl
  unfold X7_pivot at hf
  refine lv_aload_n hx hb dX7_pivot_0 rfl (lv_at hl 0 rfl) ?_
  refine lv_iconst (v := (0 : Int32)) hx hb dX7_pivot_1 (by decide) ?_
  obtain ⟨t2, et2, hf⟩ := obd hf
  refine tput hx hb hts hown hE hI 0 (by decide) q2100 rfl (tyX7_ok 0 (by decide)) rfl rfl rfl et2 dX7_pivot_2 (fun H locs hI => ?_)
  refine lv_iconst (v := (-1 : Int32)) hx hb dX7_pivot_5 (by decide) ?_
  refine lv_istore_n (lv' := [(1, .int (-1 : Int32)), (0, .ref o)]) hx hb dX7_pivot_6 rfl hl (by decide) rfl (fun ls hl => ?_)
  refine lv_iconst (v := (0 : Int32)) hx hb dX7_pivot_7 (by decide) ?_
  refine lv_istore_n (lv' := [(2, .int (0 : Int32)), (1, .int (-1 : Int32)), (0, .ref o)]) hx hb dX7_pivot_8 rfl hl (by decide) rfl (fun ls hl => ?_)
  obtain ⟨e9, he9, hf⟩ := obd hf
  have hs9 : ∀ (τ : Mm) , ∀ (w9 : Int32 × Int32) (o9 : (Int32 × Int32) ⊕ (Int32)), X7_pivot_L9 τ w9 = some o9 → (∀ wx_, o9 = .inl wx_ → ∀ (H : Heap) (locs : List Loc) (ls : Array Slot), IT D cI cZ o s H locs τ → lv_has ls 3 [(0, .ref o), (1, .int wx_.1), (2, .int wx_.2)] → W p l e ({ frames := 6, cells := 0, slots := 0, locals := 156 } : Room) s m args below meth c H locs 0 0 Q (F0 m 9 ls [])) → (∀ ex_, o9 = .inr ex_ → ∀ (H : Heap) (locs : List Loc) (ls : Array Slot), IT D cI cZ o s H locs τ → lv_has ls 3 [(1, .int ex_)] → W p l e ({ frames := 6, cells := 0, slots := 0, locals := 156 } : Room) s m args below meth c H locs 0 0 Q (F0 m 45 ls [])) → ∀ (H : Heap) (locs : List Loc) (ls : Array Slot), IT D cI cZ o s H locs τ → lv_has ls 3 [(0, .ref o), (1, .int w9.1), (2, .int w9.2)] → W p l e ({ frames := 6, cells := 0, slots := 0, locals := 156 } : Room) s m args below meth c H locs 0 0 Q (F0 m 9 ls []) := by
    intro τ  w9 o9 hf hk hq H locs ls hI hl
    unfold X7_pivot_L9 at hf
    refine lv_iload_n hx hb dX7_pivot_9 rfl (lv_at hl 2 rfl) ?_
    refine lv_aload_n hx hb dX7_pivot_10 rfl (lv_at hl 0 rfl) ?_
    refine tget hx hb hts hown hE hI 1 (by decide) q2101 rfl dX7_pivot_11 ?_
    refine lv_iconst (v := (3 : Int32)) hx hb dX7_pivot_14 (by decide) ?_
    refine taldc hx hb hE hI 1 781 3 rfl (by decide) (by decide) dX7_pivot_15 ?_
    refine lv_icmp_ge (tgt := 45) hx hb dX7_pivot_16 (by decide) (fun hc => ?_) (fun hc => ?_)
    · replace hf := ipos hc hf
      exact hq _ (Option.some.inj hf).symm H locs ls hI (lv_sub hl [1] rfl)
    · replace hf := ineg hc hf
      refine lv_iload_n hx hb dX7_pivot_19 rfl (lv_at hl 1 rfl) ?_
      refine lv_iconst (v := (-1 : Int32)) hx hb dX7_pivot_20 (by decide) ?_
      refine lv_icmp_eq (tgt := 37) hx hb dX7_pivot_21 (by decide) (fun hc => ?_) (fun hc => ?_)
      · replace hf := ipos hc hf
        refine lv_iload_n hx hb dX7_pivot_37 rfl (lv_at hl 2 rfl) ?_
        refine lv_istore_n (lv' := [(1, .int w9.2), (0, .ref o), (2, .int w9.2)]) hx hb dX7_pivot_38 rfl hl (by decide) rfl (fun ls hl => ?_)
        obtain ⟨v39, ev39, hf⟩ := obd hf
        refine lv_iinc (v := v39) (lv' := [(2, .int v39), (1, .int w9.2), (0, .ref o)]) hx hb dX7_pivot_39 hl (k := 2) rfl (iiE ev39 (by decide)) (by decide) rfl (fun ls hl => ?_)
        refine lv_goto (tgt := 9) hx hb dX7_pivot_42 (by decide) ?_
        exact hk _ (Option.some.inj hf).symm H locs ls hI (lv_sub hl [2, 1, 0] rfl)
      · replace hf := ineg hc hf
        refine lv_aload_n hx hb dX7_pivot_24 rfl (lv_at hl 0 rfl) ?_
        refine lv_iload_n hx hb dX7_pivot_25 rfl (lv_at hl 2 rfl) ?_
        obtain ⟨x26, ex26, hf⟩ := obd hf
        refine tcallI (rest := []) hx hb hts hown hE hz hI hml hl.1 (mX7_clearedBy τ w9.2 _ ex26) (cwX7_clearedBy hts ⟨Nat.le_of_ble_eq_true rfl, Nat.le_of_ble_eq_true rfl⟩) ⟨Nat.le_of_ble_eq_true rfl, Nat.le_of_ble_eq_true rfl⟩ rfl rfl (lv_room (Nat.le_of_ble_eq_true rfl)) dX7_pivot_26 (fun H locs hI => ?_)
        refine lv_aload_n hx hb dX7_pivot_29 rfl (lv_at hl 0 rfl) ?_
        refine lv_iload_n hx hb dX7_pivot_30 rfl (lv_at hl 1 rfl) ?_
        obtain ⟨x31, ex31, hf⟩ := obd hf
        refine tcallI (rest := [.int x26]) hx hb hts hown hE hz hI hml hl.1 (mX7_clearedBy τ w9.1 _ ex31) (cwX7_clearedBy hts ⟨Nat.le_of_ble_eq_true rfl, Nat.le_of_ble_eq_true rfl⟩) ⟨Nat.le_of_ble_eq_true rfl, Nat.le_of_ble_eq_true rfl⟩ rfl rfl (lv_room (Nat.le_of_ble_eq_true rfl)) dX7_pivot_31 (fun H locs hI => ?_)
        refine lv_icmp_ge (tgt := 39) hx hb dX7_pivot_34 (by decide) (fun hc => ?_) (fun hc => ?_)
        · replace hf := ipos hc hf
          obtain ⟨v39_5, ev39_5, hf⟩ := obd hf
          refine lv_iinc (v := v39_5) (lv' := [(2, .int v39_5), (0, .ref o), (1, .int w9.1)]) hx hb dX7_pivot_39 hl (k := 2) rfl (iiE ev39_5 (by decide)) (by decide) rfl (fun ls hl => ?_)
          refine lv_goto (tgt := 9) hx hb dX7_pivot_42 (by decide) ?_
          exact hk _ (Option.some.inj hf).symm H locs ls hI (lv_sub hl [1, 2, 0] rfl)
        · replace hf := ineg hc hf
          refine lv_iload_n hx hb dX7_pivot_37 rfl (lv_at hl 2 rfl) ?_
          refine lv_istore_n (lv' := [(1, .int w9.2), (0, .ref o), (2, .int w9.2)]) hx hb dX7_pivot_38 rfl hl (by decide) rfl (fun ls hl => ?_)
          obtain ⟨v39_6, ev39_6, hf⟩ := obd hf
          refine lv_iinc (v := v39_6) (lv' := [(2, .int v39_6), (1, .int w9.2), (0, .ref o)]) hx hb dX7_pivot_39 hl (k := 2) rfl (iiE ev39_6 (by decide)) (by decide) rfl (fun ls hl => ?_)
          refine lv_goto (tgt := 9) hx hb dX7_pivot_42 (by decide) ?_
          exact hk _ (Option.some.inj hf).symm H locs ls hI (lv_sub hl [2, 1, 0] rfl)
  refine loopO_W (Wat := fun w9 => ∀ (H : Heap) (locs : List Loc) (ls : Array Slot), IT D cI cZ o s H locs t2 → lv_has ls 3 [(0, .ref o), (1, .int w9.1), (2, .int w9.2)] → W p l e ({ frames := 6, cells := 0, slots := 0, locals := 156 } : Room) s m args below meth c H locs 0 0 Q (F0 m 9 ls [])) (Wex := fun ex_ => ∀ (H : Heap) (locs : List Loc) (ls : Array Slot), IT D cI cZ o s H locs t2 → lv_has ls 3 [(1, .int ex_)] → W p l e ({ frames := 6, cells := 0, slots := 0, locals := 156 } : Room) s m args below meth c H locs 0 0 Q (F0 m 45 ls [])) (hs9 t2) FU _ e9 he9 ?_ H locs ls hI (lv_sub hl [2, 1, 0] rfl)
  · skip
    intro H locs ls hI hl
    refine lv_iload_n hx hb dX7_pivot_45 rfl (lv_at hl 0 rfl) ?_
    have hf := Prod.mk.inj (Option.some.inj hf)
    rw [hf.1]
    exact hret H locs 46 ls (hf.2 ▸ hI) dX7_pivot_46


def X7_mayBuy (τ : Mm) (a1 : Int32) (a2 : Int32) (a3 : Int32) : Option (Int32) :=
  (X7_of τ a1 (10 : Int32)).bind fun x4 =>
  if x4 = (0 : Int32) then
    (X7_isOf a3 a2).bind fun x12 =>
    if x12 = (0 : Int32) then
      (X7_of τ a1 (1 : Int32)).bind fun x21 =>
      if x21 = a2 then
        some (0 : Int32)
      else
        (X7_of τ a1 (2 : Int32)).bind fun x31 =>
        if x31 = a2 then
          some (0 : Int32)
        else
          (X7_coins τ a2).bind fun x40 =>
          (ld 8 (τ 9) a1).bind fun x48 =>
          if x40 < x48 then
            some (0 : Int32)
          else
            some (1 : Int32)
    else
      some (0 : Int32)
  else
    some (0 : Int32)
set_option maxHeartbeats 4000000 in
theorem mX7_mayBuy (τ : Mm) (a1 : Int32) (a2 : Int32) (a3 : Int32) (r : Int32) (hf : X7_mayBuy τ a1 a2 a3 = some r) : TMi yX7_mayBuy cX7_mayBuy 4 (some .boolean) 2 62 (fun aK => [.int a1, .int a2, .int a3]) r τ τ := by
  refine TMz.of (by decide) rfl (fun _ _ => Nat.le_of_ble_eq_true rfl) ?_
  intro p l e s m args below meth c D cI cZ o z aK aV Q ls hz hx hb hml hown hts hE hret hI hl
  obtain ⟨H, eH⟩ : ∃ H, H = s.heap := ⟨_, rfl⟩
  obtain ⟨locs, eL⟩ : ∃ L : List Loc, L = [] := ⟨_, rfl⟩
  rw [← eH, ← eL] at hI ⊢
  have hl : lv_has ls 4 [(0, .ref o), (1, .int a1), (2, .int a2), (3, .int a3)] := hl
  unfold X7_mayBuy at hf
  refine lv_aload_n hx hb dX7_mayBuy_0 rfl (lv_at hl 0 rfl) ?_
  refine lv_iload_n hx hb dX7_mayBuy_1 rfl (lv_at hl 1 rfl) ?_
  refine lv_bipush (v := (10 : Int32)) hx hb dX7_mayBuy_2 (by decide) ?_
  obtain ⟨x4, ex4, hf⟩ := obd hf
  refine tcallI (rest := []) hx hb hts hown hE hz hI hml hl.1 (mX7_of τ a1 (10 : Int32) _ ex4) (cwX7_of hts ⟨Nat.le_of_ble_eq_true rfl, Nat.le_of_ble_eq_true rfl⟩) ⟨Nat.le_of_ble_eq_true rfl, Nat.le_of_ble_eq_true rfl⟩ rfl rfl (lv_room (Nat.le_of_ble_eq_true rfl)) dX7_mayBuy_4 (fun H locs hI => ?_)
  refine lv_if_ne (tgt := 56) hx hb dX7_mayBuy_7 (by decide) (fun hc => ?_) (fun hc => ?_)
  · replace hf := ineg hc hf
    refine lv_iconst (v := (0 : Int32)) hx hb dX7_mayBuy_56 (by decide) ?_
    have hf := Option.some.inj hf
    rw [hf]
    exact hret H locs 57 ls hI (hf ▸ (by decide)) dX7_mayBuy_57
  · replace hf := ipos hc hf
    refine lv_iload_n hx hb dX7_mayBuy_10 rfl (lv_at hl 3 rfl) ?_
    refine lv_iload_n hx hb dX7_mayBuy_11 rfl (lv_at hl 2 rfl) ?_
    obtain ⟨x12, ex12, hf⟩ := obd hf
    refine tcallS (rest := []) hx hb hts hown hml hl.1 (mX7_isOf a3 a2 _ ex12) (cwX7_isOf hts ⟨Nat.le_of_ble_eq_true rfl, Nat.le_of_ble_eq_true rfl⟩) ⟨Nat.le_of_ble_eq_true rfl, Nat.le_of_ble_eq_true rfl⟩ rfl rfl (lv_room (Nat.le_of_ble_eq_true rfl)) dX7_mayBuy_12 ?_
    refine lv_if_ne (tgt := 56) hx hb dX7_mayBuy_15 (by decide) (fun hc => ?_) (fun hc => ?_)
    · replace hf := ineg hc hf
      refine lv_iconst (v := (0 : Int32)) hx hb dX7_mayBuy_56 (by decide) ?_
      have hf := Option.some.inj hf
      rw [hf]
      exact hret H locs 57 ls hI (hf ▸ (by decide)) dX7_mayBuy_57
    · replace hf := ipos hc hf
      refine lv_aload_n hx hb dX7_mayBuy_18 rfl (lv_at hl 0 rfl) ?_
      refine lv_iload_n hx hb dX7_mayBuy_19 rfl (lv_at hl 1 rfl) ?_
      refine lv_iconst (v := (1 : Int32)) hx hb dX7_mayBuy_20 (by decide) ?_
      obtain ⟨x21, ex21, hf⟩ := obd hf
      refine tcallI (rest := []) hx hb hts hown hE hz hI hml hl.1 (mX7_of τ a1 (1 : Int32) _ ex21) (cwX7_of hts ⟨Nat.le_of_ble_eq_true rfl, Nat.le_of_ble_eq_true rfl⟩) ⟨Nat.le_of_ble_eq_true rfl, Nat.le_of_ble_eq_true rfl⟩ rfl rfl (lv_room (Nat.le_of_ble_eq_true rfl)) dX7_mayBuy_21 (fun H locs hI => ?_)
      refine lv_iload_n hx hb dX7_mayBuy_24 rfl (lv_at hl 2 rfl) ?_
      refine lv_icmp_eq (tgt := 56) hx hb dX7_mayBuy_25 (by decide) (fun hc => ?_) (fun hc => ?_)
      · replace hf := ipos hc hf
        refine lv_iconst (v := (0 : Int32)) hx hb dX7_mayBuy_56 (by decide) ?_
        have hf := Option.some.inj hf
        rw [hf]
        exact hret H locs 57 ls hI (hf ▸ (by decide)) dX7_mayBuy_57
      · replace hf := ineg hc hf
        refine lv_aload_n hx hb dX7_mayBuy_28 rfl (lv_at hl 0 rfl) ?_
        refine lv_iload_n hx hb dX7_mayBuy_29 rfl (lv_at hl 1 rfl) ?_
        refine lv_iconst (v := (2 : Int32)) hx hb dX7_mayBuy_30 (by decide) ?_
        obtain ⟨x31, ex31, hf⟩ := obd hf
        refine tcallI (rest := []) hx hb hts hown hE hz hI hml hl.1 (mX7_of τ a1 (2 : Int32) _ ex31) (cwX7_of hts ⟨Nat.le_of_ble_eq_true rfl, Nat.le_of_ble_eq_true rfl⟩) ⟨Nat.le_of_ble_eq_true rfl, Nat.le_of_ble_eq_true rfl⟩ rfl rfl (lv_room (Nat.le_of_ble_eq_true rfl)) dX7_mayBuy_31 (fun H locs hI => ?_)
        refine lv_iload_n hx hb dX7_mayBuy_34 rfl (lv_at hl 2 rfl) ?_
        refine lv_icmp_eq (tgt := 56) hx hb dX7_mayBuy_35 (by decide) (fun hc => ?_) (fun hc => ?_)
        · replace hf := ipos hc hf
          refine lv_iconst (v := (0 : Int32)) hx hb dX7_mayBuy_56 (by decide) ?_
          have hf := Option.some.inj hf
          rw [hf]
          exact hret H locs 57 ls hI (hf ▸ (by decide)) dX7_mayBuy_57
        · replace hf := ineg hc hf
          refine lv_aload_n hx hb dX7_mayBuy_38 rfl (lv_at hl 0 rfl) ?_
          refine lv_iload_n hx hb dX7_mayBuy_39 rfl (lv_at hl 2 rfl) ?_
          obtain ⟨x40, ex40, hf⟩ := obd hf
          refine tcallI (rest := []) hx hb hts hown hE hz hI hml hl.1 (mX7_coins τ a2 _ ex40) (cwX7_coins hts ⟨Nat.le_of_ble_eq_true rfl, Nat.le_of_ble_eq_true rfl⟩) ⟨Nat.le_of_ble_eq_true rfl, Nat.le_of_ble_eq_true rfl⟩ rfl rfl (lv_room (Nat.le_of_ble_eq_true rfl)) dX7_mayBuy_40 (fun H locs hI => ?_)
          refine lv_aload_n hx hb dX7_mayBuy_43 rfl (lv_at hl 0 rfl) ?_
          refine tget hx hb hts hown hE hI 23 (by decide) q2123 rfl dX7_mayBuy_44 ?_
          refine lv_iload_n hx hb dX7_mayBuy_47 rfl (lv_at hl 1 rfl) ?_
          obtain ⟨x48, ex48, hf⟩ := obd hf
          refine tald hx hb hE hI 10 8 rfl ex48 dX7_mayBuy_48 ?_
          refine lv_icmp_lt (tgt := 56) hx hb dX7_mayBuy_49 (by decide) (fun hc => ?_) (fun hc => ?_)
          · replace hf := ipos hc hf
            refine lv_iconst (v := (0 : Int32)) hx hb dX7_mayBuy_56 (by decide) ?_
            have hf := Option.some.inj hf
            rw [hf]
            exact hret H locs 57 ls hI (hf ▸ (by decide)) dX7_mayBuy_57
          · replace hf := ineg hc hf
            refine lv_iconst (v := (1 : Int32)) hx hb dX7_mayBuy_52 (by decide) ?_
            refine lv_goto (tgt := 57) hx hb dX7_mayBuy_53 (by decide) ?_
            have hf := Option.some.inj hf
            rw [hf]
            exact hret H locs 57 ls hI (hf ▸ (by decide)) dX7_mayBuy_57
theorem cwX7_mayBuy {R : Room} {s : State} {args : Array Value} {fr lo : Nat} (hts : ∀ w ∈ lw_all, w.before args s = true) (hR : fr + 1 ≤ R.frames ∧ 8 + (4 + 11) + lo ≤ R.locals) : CallW R s args RX7 RX7 381 yX7_mayBuy cX7_mayBuy 4 (some .boolean) (ws_ yX7_mayBuy cX7_mayBuy 4 (some .boolean)) ({ frames := fr, cells := 0, slots := 0, locals := lo }) 0 0 3 :=
  cwV 3 hts (lw_V q2652 q2654 qs127 q143 q2655) rfl rfl rfl (by decide +kernel) hR

def X7_sales_L2 (w2 : Mm × Int32) : Option ((Mm × Int32) ⊕ (Mm)) :=
  if (w2.1 0 5) ≤ w2.2 then
    some (.inr w2.1)
  else
    (X7_priceOf w2.1 w2.2).bind fun x19 =>
    (sto 8 x19.2 9 w2.2 x19.1).bind fun t22 =>
    (some (w2.2 + (1 : Int32))).bind fun v23 =>
    some (.inl (t22, v23))
def X7_sales_L31 (w31 : Mm × Int32) : Option ((Mm × Int32) ⊕ (Mm)) :=
  if (64 : Int32) ≤ w31.2 then
    some (.inr w31.1)
  else
    (sto 576 w31.1 8 (((64 : Int32) * (w31.1 0 5)) + w31.2) (0 : Int32)).bind fun t53 =>
    (some (w31.2 + (1 : Int32))).bind fun v54 =>
    some (.inl (t53, v54))
def X7_sales_L98 (τ : Mm) (c1 : Int32) (c2 : Int32) (w98 : Int32 × Int32) : Option ((Int32 × Int32) ⊕ (Int32)) :=
  if (τ 0 3) ≤ w98.2 then
    some (.inr w98.1)
  else
    (X7_mayBuy τ c1 w98.2 c2).bind fun x114 =>
    if x114 = (0 : Int32) then
      (some (w98.2 + (1 : Int32))).bind fun v150 =>
      some (.inl (w98.1, v150))
    else
      (ld 8 (τ 9) c1).bind fun x126 =>
      (ld 576 (τ 8) (((64 : Int32) * (c1 + (1 : Int32))) + (c2 ||| ((1 : Int32) <<< (w98.2 &&& (31 : Int32)))))).bind fun x144 =>
      (X7_greater w98.1 (x126 + x144)).bind fun x146 =>
      (some (w98.2 + (1 : Int32))).bind fun v150_13 =>
      some (.inl (x146, v150_13))
def X7_sales_L75 (c1 : Int32) (w75 : Mm × Int32) : Option ((Mm × Int32) ⊕ (Mm)) :=
  if (64 : Int32) ≤ w75.2 then
    some (.inr w75.1)
  else
    (ld 576 (w75.1 8) (((64 : Int32) * (c1 + (1 : Int32))) + w75.2)).bind fun x93 =>
    (loopO (X7_sales_L98 w75.1 c1 w75.2) FU (x93, (0 : Int32))).bind fun e98 =>
    (sto 576 w75.1 8 (((64 : Int32) * c1) + w75.2) e98).bind fun t167 =>
    (some (w75.2 + (1 : Int32))).bind fun v168 =>
    some (.inl (t167, v168))
def X7_sales_L69 (w69 : Mm × Int32) : Option ((Mm × Int32) ⊕ (Mm)) :=
  if w69.2 < (0 : Int32) then
    some (.inr w69.1)
  else
    (loopO (X7_sales_L75 w69.2) FU (w69.1, (0 : Int32))).bind fun e75 =>
    (some (w69.2 + (-1 : Int32))).bind fun v174 =>
    some (.inl (e75, v174))
def X7_sales (τ : Mm) : Option (Mm) :=
  (loopO (X7_sales_L2) FU (τ, (0 : Int32))).bind fun e2 =>
  (loopO (X7_sales_L31) FU (e2, (0 : Int32))).bind fun e31 =>
  (some ((e31 0 5) - (1 : Int32))).bind fun v68 =>
  (loopO (X7_sales_L69) FU (e31, v68)).bind fun e69 =>
  some e69
set_option maxHeartbeats 4000000 in
theorem mX7_sales (τ : Mm) (τ' : Mm) (hf : X7_sales τ = some τ') : TMv yX7_sales cX7_sales 5 none 697 20164 (fun aK => []) τ τ' := by
  refine TMv.of (by decide) rfl (fun _ _ => Nat.le_of_ble_eq_true rfl) ?_
  intro p l e s m args below meth c D cI cZ o z aK aV Q ls hz hx hb hml hown hts hE hret hI hl
  obtain ⟨H, eH⟩ : ∃ H, H = s.heap := ⟨_, rfl⟩
  obtain ⟨locs, eL⟩ : ∃ L : List Loc, L = [] := ⟨_, rfl⟩
  rw [← eH, ← eL] at hI ⊢
  have hl : lv_has ls 5 [(0, .ref o)] := hl
  unfold X7_sales at hf
  refine lv_iconst (v := (0 : Int32)) hx hb dX7_sales_0 (by decide) ?_
  refine lv_istore_n (lv' := [(1, .int (0 : Int32)), (0, .ref o)]) hx hb dX7_sales_1 rfl hl (by decide) rfl (fun ls hl => ?_)
  obtain ⟨e2, he2, hf⟩ := obd hf
  refine loopO_W (Wat := fun w2 => ∀ (H : Heap) (locs : List Loc) (ls : Array Slot), IT D cI cZ o s H locs w2.1 → lv_has ls 5 [(0, .ref o), (1, .int w2.2)] → W p l e ({ frames := 697, cells := 0, slots := 0, locals := 20164 } : Room) s m args below meth c H locs 0 0 Q (F0 m 2 ls [])) (Wex := fun ex_ => ∀ (H : Heap) (locs : List Loc) (ls : Array Slot), IT D cI cZ o s H locs ex_ → lv_has ls 5 [(0, .ref o)] → W p l e ({ frames := 697, cells := 0, slots := 0, locals := 20164 } : Room) s m args below meth c H locs 0 0 Q (F0 m 29 ls [])) (fun w2 o2 hf hk hq => ?_) FU _ e2 he2 ?_ H locs ls hI (lv_sub hl [1, 0] rfl)
  · intro H locs ls hI hl
    unfold X7_sales_L2 at hf
    refine lv_iload_n hx hb dX7_sales_2 rfl (lv_at hl 1 rfl) ?_
    refine lv_aload_n hx hb dX7_sales_3 rfl (lv_at hl 0 rfl) ?_
    refine tget hx hb hts hown hE hI 1 (by decide) q2101 rfl dX7_sales_4 ?_
    refine lv_iconst (v := (5 : Int32)) hx hb dX7_sales_7 (by decide) ?_
    refine taldc hx hb hE hI 1 781 5 rfl (by decide) (by decide) dX7_sales_8 ?_
    refine lv_icmp_ge (tgt := 29) hx hb dX7_sales_9 (by decide) (fun hc => ?_) (fun hc => ?_)
    · replace hf := ipos hc hf
      exact hq _ (Option.some.inj hf).symm H locs ls hI (lv_sub hl [0] rfl)
    · replace hf := ineg hc hf
      refine lv_aload_n hx hb dX7_sales_12 rfl (lv_at hl 0 rfl) ?_
      refine tget hx hb hts hown hE hI 23 (by decide) q2123 rfl dX7_sales_13 ?_
      refine lv_iload_n hx hb dX7_sales_16 rfl (lv_at hl 1 rfl) ?_
      refine lv_aload_n hx hb dX7_sales_17 rfl (lv_at hl 0 rfl) ?_
      refine lv_iload_n hx hb dX7_sales_18 rfl (lv_at hl 1 rfl) ?_
      obtain ⟨x19, ex19, hf⟩ := obd hf
      refine tcallI (rest := [.int w2.2, .ref (o + 10)]) hx hb hts hown hE hz hI hml hl.1 (mX7_priceOf w2.1 w2.2 _ _ ex19) (cwX7_priceOf hts ⟨Nat.le_of_ble_eq_true rfl, Nat.le_of_ble_eq_true rfl⟩) ⟨Nat.le_of_ble_eq_true rfl, Nat.le_of_ble_eq_true rfl⟩ rfl rfl (lv_room (Nat.le_of_ble_eq_true rfl)) dX7_sales_19 (fun H locs hI => ?_)
      obtain ⟨t22, et22, hf⟩ := obd hf
      refine tast hx hb hE hI 10 8 9 rfl (fun _ => rfl) et22 dX7_sales_22 (fun H locs hI => ?_)
      obtain ⟨v23, ev23, hf⟩ := obd hf
      refine lv_iinc (v := v23) (lv' := [(1, .int v23), (0, .ref o)]) hx hb dX7_sales_23 hl (k := 1) rfl (iiE ev23 (by decide)) (by decide) rfl (fun ls hl => ?_)
      refine lv_goto (tgt := 2) hx hb dX7_sales_26 (by decide) ?_
      exact hk _ (Option.some.inj hf).symm H locs ls hI (lv_sub hl [1, 0] rfl)
  · skip
    intro H locs ls hI hl
    refine lv_iconst (v := (0 : Int32)) hx hb dX7_sales_29 (by decide) ?_
    refine lv_istore_n (lv' := [(1, .int (0 : Int32)), (0, .ref o)]) hx hb dX7_sales_30 rfl hl (by decide) rfl (fun ls hl => ?_)
    obtain ⟨e31, he31, hf⟩ := obd hf
    refine loopO_W (Wat := fun w31 => ∀ (H : Heap) (locs : List Loc) (ls : Array Slot), IT D cI cZ o s H locs w31.1 → lv_has ls 5 [(0, .ref o), (1, .int w31.2)] → W p l e ({ frames := 697, cells := 0, slots := 0, locals := 20164 } : Room) s m args below meth c H locs 0 0 Q (F0 m 31 ls [])) (Wex := fun ex_ => ∀ (H : Heap) (locs : List Loc) (ls : Array Slot), IT D cI cZ o s H locs ex_ → lv_has ls 5 [(0, .ref o)] → W p l e ({ frames := 697, cells := 0, slots := 0, locals := 20164 } : Room) s m args below meth c H locs 0 0 Q (F0 m 60 ls [])) (fun w31 o31 hf hk hq => ?_) FU _ e31 he31 ?_ H locs ls hI (lv_sub hl [1, 0] rfl)
    · intro H locs ls hI hl
      unfold X7_sales_L31 at hf
      refine lv_iload_n hx hb dX7_sales_31 rfl (lv_at hl 1 rfl) ?_
      refine lv_bipush (v := (64 : Int32)) hx hb dX7_sales_32 (by decide) ?_
      refine lv_icmp_ge (tgt := 60) hx hb dX7_sales_34 (by decide) (fun hc => ?_) (fun hc => ?_)
      · replace hf := ipos hc hf
        exact hq _ (Option.some.inj hf).symm H locs ls hI (lv_sub hl [0] rfl)
      · replace hf := ineg hc hf
        refine lv_aload_n hx hb dX7_sales_37 rfl (lv_at hl 0 rfl) ?_
        refine tget hx hb hts hown hE hI 22 (by decide) q2122 rfl dX7_sales_38 ?_
        refine lv_bipush (v := (64 : Int32)) hx hb dX7_sales_41 (by decide) ?_
        refine lv_aload_n hx hb dX7_sales_43 rfl (lv_at hl 0 rfl) ?_
        refine tget hx hb hts hown hE hI 1 (by decide) q2101 rfl dX7_sales_44 ?_
        refine lv_iconst (v := (5 : Int32)) hx hb dX7_sales_47 (by decide) ?_
        refine taldc hx hb hE hI 1 781 5 rfl (by decide) (by decide) dX7_sales_48 ?_
        refine lv_imul hx hb dX7_sales_49 ?_
        refine lv_iload_n hx hb dX7_sales_50 rfl (lv_at hl 1 rfl) ?_
        refine lv_iadd hx hb dX7_sales_51 ?_
        refine lv_iconst (v := (0 : Int32)) hx hb dX7_sales_52 (by decide) ?_
        obtain ⟨t53, et53, hf⟩ := obd hf
        refine tast hx hb hE hI 9 576 8 rfl (fun _ => rfl) et53 dX7_sales_53 (fun H locs hI => ?_)
        obtain ⟨v54, ev54, hf⟩ := obd hf
        refine lv_iinc (v := v54) (lv' := [(1, .int v54), (0, .ref o)]) hx hb dX7_sales_54 hl (k := 1) rfl (iiE ev54 (by decide)) (by decide) rfl (fun ls hl => ?_)
        refine lv_goto (tgt := 31) hx hb dX7_sales_57 (by decide) ?_
        exact hk _ (Option.some.inj hf).symm H locs ls hI (lv_sub hl [1, 0] rfl)
    · skip
      intro H locs ls hI hl
      refine lv_aload_n hx hb dX7_sales_60 rfl (lv_at hl 0 rfl) ?_
      refine tget hx hb hts hown hE hI 1 (by decide) q2101 rfl dX7_sales_61 ?_
      refine lv_iconst (v := (5 : Int32)) hx hb dX7_sales_64 (by decide) ?_
      refine taldc hx hb hE hI 1 781 5 rfl (by decide) (by decide) dX7_sales_65 ?_
      refine lv_iconst (v := (1 : Int32)) hx hb dX7_sales_66 (by decide) ?_
      refine lv_isub hx hb dX7_sales_67 ?_
      obtain ⟨v68, ev68, hf⟩ := obd hf
      refine nmI ev68 ?_
      refine lv_istore_n (lv' := [(1, .int v68), (0, .ref o)]) hx hb dX7_sales_68 rfl hl (by decide) rfl (fun ls hl => ?_)
      obtain ⟨e69, he69, hf⟩ := obd hf
      refine loopO_W (Wat := fun w69 => ∀ (H : Heap) (locs : List Loc) (ls : Array Slot), IT D cI cZ o s H locs w69.1 → lv_has ls 5 [(0, .ref o), (1, .int w69.2)] → W p l e ({ frames := 697, cells := 0, slots := 0, locals := 20164 } : Room) s m args below meth c H locs 0 0 Q (F0 m 69 ls [])) (Wex := fun ex_ => ∀ (H : Heap) (locs : List Loc) (ls : Array Slot), IT D cI cZ o s H locs ex_ → lv_has ls 5 [] → W p l e ({ frames := 697, cells := 0, slots := 0, locals := 20164 } : Room) s m args below meth c H locs 0 0 Q (F0 m 180 ls [])) (fun w69 o69 hf hk hq => ?_) FU _ e69 he69 ?_ H locs ls hI (lv_sub hl [1, 0] rfl)
      · intro H locs ls hI hl
        unfold X7_sales_L69 at hf
        refine lv_iload_n hx hb dX7_sales_69 rfl (lv_at hl 1 rfl) ?_
        refine lv_if_lt (tgt := 180) hx hb dX7_sales_70 (by decide) (fun hc => ?_) (fun hc => ?_)
        · replace hf := ipos hc hf
          exact hq _ (Option.some.inj hf).symm H locs ls hI (lv_sub hl [] rfl)
        · replace hf := ineg hc hf
          refine lv_iconst (v := (0 : Int32)) hx hb dX7_sales_73 (by decide) ?_
          refine lv_istore_n (lv' := [(2, .int (0 : Int32)), (0, .ref o), (1, .int w69.2)]) hx hb dX7_sales_74 rfl hl (by decide) rfl (fun ls hl => ?_)
          obtain ⟨e75, he75, hf⟩ := obd hf
          have hs75 : ∀ (c1 : Int32), ∀ (w75 : Mm × Int32) (o75 : (Mm × Int32) ⊕ (Mm)), X7_sales_L75 c1 w75 = some o75 → (∀ wx_, o75 = .inl wx_ → ∀ (H : Heap) (locs : List Loc) (ls : Array Slot), IT D cI cZ o s H locs wx_.1 → lv_has ls 5 [(0, .ref o), (1, .int c1), (2, .int wx_.2)] → W p l e ({ frames := 697, cells := 0, slots := 0, locals := 20164 } : Room) s m args below meth c H locs 0 0 Q (F0 m 75 ls [])) → (∀ ex_, o75 = .inr ex_ → ∀ (H : Heap) (locs : List Loc) (ls : Array Slot), IT D cI cZ o s H locs ex_ → lv_has ls 5 [(0, .ref o), (1, .int c1)] → W p l e ({ frames := 697, cells := 0, slots := 0, locals := 20164 } : Room) s m args below meth c H locs 0 0 Q (F0 m 174 ls [])) → ∀ (H : Heap) (locs : List Loc) (ls : Array Slot), IT D cI cZ o s H locs w75.1 → lv_has ls 5 [(0, .ref o), (1, .int c1), (2, .int w75.2)] → W p l e ({ frames := 697, cells := 0, slots := 0, locals := 20164 } : Room) s m args below meth c H locs 0 0 Q (F0 m 75 ls []) := by
            intro c1 w75 o75 hf hk hq H locs ls hI hl
            unfold X7_sales_L75 at hf
            refine lv_iload_n hx hb dX7_sales_75 rfl (lv_at hl 2 rfl) ?_
            refine lv_bipush (v := (64 : Int32)) hx hb dX7_sales_76 (by decide) ?_
            refine lv_icmp_ge (tgt := 174) hx hb dX7_sales_78 (by decide) (fun hc => ?_) (fun hc => ?_)
            · replace hf := ipos hc hf
              exact hq _ (Option.some.inj hf).symm H locs ls hI (lv_sub hl [0, 1] rfl)
            · replace hf := ineg hc hf
              refine lv_aload_n hx hb dX7_sales_81 rfl (lv_at hl 0 rfl) ?_
              refine tget hx hb hts hown hE hI 22 (by decide) q2122 rfl dX7_sales_82 ?_
              refine lv_bipush (v := (64 : Int32)) hx hb dX7_sales_85 (by decide) ?_
              refine lv_iload_n hx hb dX7_sales_87 rfl (lv_at hl 1 rfl) ?_
              refine lv_iconst (v := (1 : Int32)) hx hb dX7_sales_88 (by decide) ?_
              refine lv_iadd hx hb dX7_sales_89 ?_
              refine lv_imul hx hb dX7_sales_90 ?_
              refine lv_iload_n hx hb dX7_sales_91 rfl (lv_at hl 2 rfl) ?_
              refine lv_iadd hx hb dX7_sales_92 ?_
              obtain ⟨x93, ex93, hf⟩ := obd hf
              refine tald hx hb hE hI 9 576 rfl ex93 dX7_sales_93 ?_
              refine lv_istore_n (lv' := [(3, .int x93), (0, .ref o), (1, .int c1), (2, .int w75.2)]) hx hb dX7_sales_94 rfl hl (by decide) rfl (fun ls hl => ?_)
              refine lv_iconst (v := (0 : Int32)) hx hb dX7_sales_95 (by decide) ?_
              refine lv_istore (lv' := [(4, .int (0 : Int32)), (3, .int x93), (0, .ref o), (1, .int c1), (2, .int w75.2)]) hx hb dX7_sales_96 hl (by decide) rfl (fun ls hl => ?_)
              obtain ⟨e98, he98, hf⟩ := obd hf
              have hs98 : ∀ (τ : Mm) (c1 : Int32) (c2 : Int32), ∀ (w98 : Int32 × Int32) (o98 : (Int32 × Int32) ⊕ (Int32)), X7_sales_L98 τ c1 c2 w98 = some o98 → (∀ wx_, o98 = .inl wx_ → ∀ (H : Heap) (locs : List Loc) (ls : Array Slot), IT D cI cZ o s H locs τ → lv_has ls 5 [(0, .ref o), (1, .int c1), (2, .int c2), (3, .int wx_.1), (4, .int wx_.2)] → W p l e ({ frames := 697, cells := 0, slots := 0, locals := 20164 } : Room) s m args below meth c H locs 0 0 Q (F0 m 98 ls [])) → (∀ ex_, o98 = .inr ex_ → ∀ (H : Heap) (locs : List Loc) (ls : Array Slot), IT D cI cZ o s H locs τ → lv_has ls 5 [(0, .ref o), (1, .int c1), (2, .int c2), (3, .int ex_)] → W p l e ({ frames := 697, cells := 0, slots := 0, locals := 20164 } : Room) s m args below meth c H locs 0 0 Q (F0 m 156 ls [])) → ∀ (H : Heap) (locs : List Loc) (ls : Array Slot), IT D cI cZ o s H locs τ → lv_has ls 5 [(0, .ref o), (1, .int c1), (2, .int c2), (3, .int w98.1), (4, .int w98.2)] → W p l e ({ frames := 697, cells := 0, slots := 0, locals := 20164 } : Room) s m args below meth c H locs 0 0 Q (F0 m 98 ls []) := by
                intro τ c1 c2 w98 o98 hf hk hq H locs ls hI hl
                unfold X7_sales_L98 at hf
                refine lv_iload hx hb dX7_sales_98 (lv_at hl 4 rfl) ?_
                refine lv_aload_n hx hb dX7_sales_100 rfl (lv_at hl 0 rfl) ?_
                refine tget hx hb hts hown hE hI 1 (by decide) q2101 rfl dX7_sales_101 ?_
                refine lv_iconst (v := (3 : Int32)) hx hb dX7_sales_104 (by decide) ?_
                refine taldc hx hb hE hI 1 781 3 rfl (by decide) (by decide) dX7_sales_105 ?_
                refine lv_icmp_ge (tgt := 156) hx hb dX7_sales_106 (by decide) (fun hc => ?_) (fun hc => ?_)
                · replace hf := ipos hc hf
                  exact hq _ (Option.some.inj hf).symm H locs ls hI (lv_sub hl [0, 1, 2, 3] rfl)
                · replace hf := ineg hc hf
                  refine lv_aload_n hx hb dX7_sales_109 rfl (lv_at hl 0 rfl) ?_
                  refine lv_iload_n hx hb dX7_sales_110 rfl (lv_at hl 1 rfl) ?_
                  refine lv_iload hx hb dX7_sales_111 (lv_at hl 4 rfl) ?_
                  refine lv_iload_n hx hb dX7_sales_113 rfl (lv_at hl 2 rfl) ?_
                  obtain ⟨x114, ex114, hf⟩ := obd hf
                  refine tcallI (rest := []) hx hb hts hown hE hz hI hml hl.1 (mX7_mayBuy τ c1 w98.2 c2 _ ex114) (cwX7_mayBuy hts ⟨Nat.le_of_ble_eq_true rfl, Nat.le_of_ble_eq_true rfl⟩) ⟨Nat.le_of_ble_eq_true rfl, Nat.le_of_ble_eq_true rfl⟩ rfl rfl (lv_room (Nat.le_of_ble_eq_true rfl)) dX7_sales_114 (fun H locs hI => ?_)
                  refine lv_if_eq (tgt := 150) hx hb dX7_sales_117 (by decide) (fun hc => ?_) (fun hc => ?_)
                  · replace hf := ipos hc hf
                    obtain ⟨v150, ev150, hf⟩ := obd hf
                    refine lv_iinc (v := v150) (lv' := [(4, .int v150), (0, .ref o), (1, .int c1), (2, .int c2), (3, .int w98.1)]) hx hb dX7_sales_150 hl (k := 4) rfl (iiE ev150 (by decide)) (by decide) rfl (fun ls hl => ?_)
                    refine lv_goto (tgt := 98) hx hb dX7_sales_153 (by decide) ?_
                    exact hk _ (Option.some.inj hf).symm H locs ls hI (lv_sub hl [1, 2, 3, 4, 0] rfl)
                  · replace hf := ineg hc hf
                    refine lv_iload_n hx hb dX7_sales_120 rfl (lv_at hl 3 rfl) ?_
                    refine lv_aload_n hx hb dX7_sales_121 rfl (lv_at hl 0 rfl) ?_
                    refine tget hx hb hts hown hE hI 23 (by decide) q2123 rfl dX7_sales_122 ?_
                    refine lv_iload_n hx hb dX7_sales_125 rfl (lv_at hl 1 rfl) ?_
                    obtain ⟨x126, ex126, hf⟩ := obd hf
                    refine tald hx hb hE hI 10 8 rfl ex126 dX7_sales_126 ?_
                    refine lv_aload_n hx hb dX7_sales_127 rfl (lv_at hl 0 rfl) ?_
                    refine tget hx hb hts hown hE hI 22 (by decide) q2122 rfl dX7_sales_128 ?_
                    refine lv_bipush (v := (64 : Int32)) hx hb dX7_sales_131 (by decide) ?_
                    refine lv_iload_n hx hb dX7_sales_133 rfl (lv_at hl 1 rfl) ?_
                    refine lv_iconst (v := (1 : Int32)) hx hb dX7_sales_134 (by decide) ?_
                    refine lv_iadd hx hb dX7_sales_135 ?_
                    refine lv_imul hx hb dX7_sales_136 ?_
                    refine lv_iload_n hx hb dX7_sales_137 rfl (lv_at hl 2 rfl) ?_
                    refine lv_iconst (v := (1 : Int32)) hx hb dX7_sales_138 (by decide) ?_
                    refine lv_iload hx hb dX7_sales_139 (lv_at hl 4 rfl) ?_
                    refine lv_ishl hx hb dX7_sales_141 ?_
                    refine lv_ior hx hb dX7_sales_142 ?_
                    refine lv_iadd hx hb dX7_sales_143 ?_
                    obtain ⟨x144, ex144, hf⟩ := obd hf
                    refine tald hx hb hE hI 9 576 rfl ex144 dX7_sales_144 ?_
                    refine lv_iadd hx hb dX7_sales_145 ?_
                    obtain ⟨x146, ex146, hf⟩ := obd hf
                    refine tcallS (rest := []) hx hb hts hown hml hl.1 (mX7_greater w98.1 (x126 + x144) _ ex146) (cwX7_greater hts ⟨Nat.le_of_ble_eq_true rfl, Nat.le_of_ble_eq_true rfl⟩) ⟨Nat.le_of_ble_eq_true rfl, Nat.le_of_ble_eq_true rfl⟩ rfl rfl (lv_room (Nat.le_of_ble_eq_true rfl)) dX7_sales_146 ?_
                    refine lv_istore_n (lv' := [(3, .int x146), (0, .ref o), (1, .int c1), (2, .int c2), (4, .int w98.2)]) hx hb dX7_sales_149 rfl hl (by decide) rfl (fun ls hl => ?_)
                    obtain ⟨v150_13, ev150_13, hf⟩ := obd hf
                    refine lv_iinc (v := v150_13) (lv' := [(4, .int v150_13), (3, .int x146), (0, .ref o), (1, .int c1), (2, .int c2)]) hx hb dX7_sales_150 hl (k := 4) rfl (iiE ev150_13 (by decide)) (by decide) rfl (fun ls hl => ?_)
                    refine lv_goto (tgt := 98) hx hb dX7_sales_153 (by decide) ?_
                    exact hk _ (Option.some.inj hf).symm H locs ls hI (lv_sub hl [2, 3, 4, 1, 0] rfl)
              refine loopO_W (Wat := fun w98 => ∀ (H : Heap) (locs : List Loc) (ls : Array Slot), IT D cI cZ o s H locs w75.1 → lv_has ls 5 [(0, .ref o), (1, .int c1), (2, .int w75.2), (3, .int w98.1), (4, .int w98.2)] → W p l e ({ frames := 697, cells := 0, slots := 0, locals := 20164 } : Room) s m args below meth c H locs 0 0 Q (F0 m 98 ls [])) (Wex := fun ex_ => ∀ (H : Heap) (locs : List Loc) (ls : Array Slot), IT D cI cZ o s H locs w75.1 → lv_has ls 5 [(0, .ref o), (1, .int c1), (2, .int w75.2), (3, .int ex_)] → W p l e ({ frames := 697, cells := 0, slots := 0, locals := 20164 } : Room) s m args below meth c H locs 0 0 Q (F0 m 156 ls [])) (hs98 w75.1 c1 w75.2) FU _ e98 he98 ?_ H locs ls hI (lv_sub hl [2, 3, 4, 1, 0] rfl)
              · skip
                intro H locs ls hI hl
                refine lv_aload_n hx hb dX7_sales_156 rfl (lv_at hl 0 rfl) ?_
                refine tget hx hb hts hown hE hI 22 (by decide) q2122 rfl dX7_sales_157 ?_
                refine lv_bipush (v := (64 : Int32)) hx hb dX7_sales_160 (by decide) ?_
                refine lv_iload_n hx hb dX7_sales_162 rfl (lv_at hl 1 rfl) ?_
                refine lv_imul hx hb dX7_sales_163 ?_
                refine lv_iload_n hx hb dX7_sales_164 rfl (lv_at hl 2 rfl) ?_
                refine lv_iadd hx hb dX7_sales_165 ?_
                refine lv_iload_n hx hb dX7_sales_166 rfl (lv_at hl 3 rfl) ?_
                obtain ⟨t167, et167, hf⟩ := obd hf
                refine tast hx hb hE hI 9 576 8 rfl (fun _ => rfl) et167 dX7_sales_167 (fun H locs hI => ?_)
                obtain ⟨v168, ev168, hf⟩ := obd hf
                refine lv_iinc (v := v168) (lv' := [(2, .int v168), (0, .ref o), (1, .int c1), (3, .int e98)]) hx hb dX7_sales_168 hl (k := 2) rfl (iiE ev168 (by decide)) (by decide) rfl (fun ls hl => ?_)
                refine lv_goto (tgt := 75) hx hb dX7_sales_171 (by decide) ?_
                exact hk _ (Option.some.inj hf).symm H locs ls hI (lv_sub hl [1, 2, 0] rfl)
          refine loopO_W (Wat := fun w75 => ∀ (H : Heap) (locs : List Loc) (ls : Array Slot), IT D cI cZ o s H locs w75.1 → lv_has ls 5 [(0, .ref o), (1, .int w69.2), (2, .int w75.2)] → W p l e ({ frames := 697, cells := 0, slots := 0, locals := 20164 } : Room) s m args below meth c H locs 0 0 Q (F0 m 75 ls [])) (Wex := fun ex_ => ∀ (H : Heap) (locs : List Loc) (ls : Array Slot), IT D cI cZ o s H locs ex_ → lv_has ls 5 [(0, .ref o), (1, .int w69.2)] → W p l e ({ frames := 697, cells := 0, slots := 0, locals := 20164 } : Room) s m args below meth c H locs 0 0 Q (F0 m 174 ls [])) (hs75 w69.2) FU _ e75 he75 ?_ H locs ls hI (lv_sub hl [1, 2, 0] rfl)
          · skip
            intro H locs ls hI hl
            obtain ⟨v174, ev174, hf⟩ := obd hf
            refine lv_iinc (v := v174) (lv' := [(1, .int v174), (0, .ref o)]) hx hb dX7_sales_174 hl (k := 1) rfl (iiE ev174 (by decide)) (by decide) rfl (fun ls hl => ?_)
            refine lv_goto (tgt := 69) hx hb dX7_sales_177 (by decide) ?_
            exact hk _ (Option.some.inj hf).symm H locs ls hI (lv_sub hl [1, 0] rfl)
      · skip
        intro H locs ls hI hl
        exact hret H locs 180 ls ((Option.some.inj hf) ▸ hI) dX7_sales_180
theorem cwX7_sales {R : Room} {s : State} {args : Array Value} {fr lo : Nat} (hts : ∀ w ∈ lw_all, w.before args s = true) (hR : fr + 1 ≤ R.frames ∧ 8 + (5 + 11) + lo ≤ R.locals) : CallW R s args RX7 RX7 384 yX7_sales cX7_sales 5 (none) (ws_ yX7_sales cX7_sales 5 (none)) ({ frames := fr, cells := 0, slots := 0, locals := lo }) 0 0 0 :=
  cwV 0 hts (lw_V q2648 q2650 qs126 q143 q2651) rfl rfl rfl (by decide +kernel) hR

def X7_buyers_L104 (τ : Mm) (c1 : Int32) (c2 : Int32) (c4 : Int32) (w104 : Int32 × Int32) : Option ((Int32 × Int32) ⊕ (Int32)) :=
  if w104.2 < (0 : Int32) then
    some (.inr w104.1)
  else
    (X7_mayBuy τ c4 w104.2 c2).bind fun x115 =>
    if x115 = (0 : Int32) then
      (some (w104.2 + (-1 : Int32))).bind fun v166 =>
      some (.inl (w104.1, v166))
    else
      (ld 8 (τ 9) c4).bind fun x127 =>
      (ld 576 (τ 8) (((64 : Int32) * (c4 + (1 : Int32))) + (c2 ||| ((1 : Int32) <<< (w104.2 &&& (31 : Int32)))))).bind fun x146 =>
      (ld 576 (τ 8) (((64 : Int32) * c4) + c2)).bind fun x159 =>
      if (x127 + x146) = x159 then
        (some (w104.2 + (-1 : Int32))).bind fun v166_13 =>
        some (.inl (w104.2, v166_13))
      else
        (some (w104.2 + (-1 : Int32))).bind fun v166_12 =>
        some (.inl (w104.1, v166_12))
def X7_buyers_L54 (τ : Mm) (c1 : Int32) (w54 : Int32 × Int32 × Int32) : Option ((Int32 × Int32 × Int32) ⊕ (Int32)) :=
  if c1 < w54.2.2 then
    some (.inr w54.2.1)
  else
    (ld 576 (τ 8) (((64 : Int32) * (w54.2.2 + (1 : Int32))) + w54.1)).bind fun x75 =>
    (ld 576 (τ 8) (((64 : Int32) * w54.2.2) + w54.1)).bind fun x87 =>
    if x75 = x87 then
      (some (w54.2.2 + (1 : Int32))).bind fun v178_16 =>
      some (.inl (w54.1, (-1 : Int32), v178_16))
    else
      (some ((τ 0 3) - (1 : Int32))).bind fun v102 =>
      (loopO (X7_buyers_L104 τ c1 w54.1 w54.2.2) FU ((-1 : Int32), v102)).bind fun e104 =>
      (some (w54.1 ||| ((1 : Int32) <<< (e104 &&& (31 : Int32))))).bind fun v177 =>
      (some (w54.2.2 + (1 : Int32))).bind fun v178 =>
      some (.inl (v177, e104, v178))
def X7_buyers_J19 (τ : Mm) (a1 : Int32) (y0 : Int32) : Option (Int32 × Mm) :=
  (some (mup τ 10 0 y0)).bind fun t19 =>
  if (t19 10 0) ≤ (0 : Int32) then
    (X7_sales t19).bind fun t32 =>
    if a1 = (-1 : Int32) then
      some ((t32 8 0), t32)
    else
      (loopO (X7_buyers_L54 t32 a1) FU ((0 : Int32), (-1 : Int32), (0 : Int32))).bind fun e54 =>
      some (e54, t32)
  else
    some ((0 : Int32), t19)
def X7_buyers_J18 (τ : Mm) (a1 : Int32) : Option (Int32 × Mm) :=
  X7_buyers_J19 τ a1 (0 : Int32)
def X7_buyers (τ : Mm) (a1 : Int32) : Option (Int32 × Mm) :=
  if a1 = (-1 : Int32) then
    X7_buyers_J18 τ a1
  else
    (X7_isDeed τ a1).bind fun x8 =>
    if x8 = (0 : Int32) then
      X7_buyers_J19 τ a1 (1 : Int32)
    else
      X7_buyers_J18 τ a1
set_option maxHeartbeats 4000000 in
theorem mX7_buyers (τ : Mm) (a1 : Int32) (r : Int32) (τ' : Mm) (hf : X7_buyers τ a1 = some (r, τ')) : TMi yX7_buyers cX7_buyers 6 (some .int) 698 20188 (fun aK => [.int a1]) r τ τ' := by
  refine TMi.of (by decide) rfl (fun _ _ => Nat.le_of_ble_eq_true rfl) ?_
  intro p l e s m args below meth c D cI cZ o z aK aV Q ls hz hx hb hml hown hts hE hret hI hl
  obtain ⟨H, eH⟩ : ∃ H, H = s.heap := ⟨_, rfl⟩
  obtain ⟨locs, eL⟩ : ∃ L : List Loc, L = [] := ⟨_, rfl⟩
  rw [← eH, ← eL] at hI ⊢
  have hl : lv_has ls 6 [(0, .ref o), (1, .int a1)] := hl
  unfold X7_buyers at hf
  have hJ19 : ∀ (τ : Mm) (y0 : Int32) (H : Heap) (locs : List Loc) (ls : Array Slot), X7_buyers_J19 τ a1 y0 = some (r, τ') → IT D cI cZ o s H locs τ → lv_has ls 6 [(0, .ref o), (1, .int a1)] → W p l e ({ frames := 698, cells := 0, slots := 0, locals := 20188 } : Room) s m args below meth c H locs 0 0 Q (F0 m 19 ls [.int y0, .ref o]) := by
    intro τ y0 H locs ls hf hI hl
    unfold X7_buyers_J19 at hf
    obtain ⟨t19, et19, hf⟩ := obd hf
    refine tput hx hb hts hown hE hI 0 (by decide) q2100 rfl (tyX7_ok 0 (by decide)) rfl rfl rfl et19 dX7_buyers_19 (fun H locs hI => ?_)
    refine lv_aload_n hx hb dX7_buyers_22 rfl (lv_at hl 0 rfl) ?_
    refine tget hx hb hts hown hE hI 0 (by decide) q2100 rfl dX7_buyers_23 ?_
    refine lv_if_le (tgt := 31) hx hb dX7_buyers_26 (by decide) (fun hc => ?_) (fun hc => ?_)
    · replace hf := ipos hc hf
      refine lv_aload_n hx hb dX7_buyers_31 rfl (lv_at hl 0 rfl) ?_
      obtain ⟨t32, et32, hf⟩ := obd hf
      refine tcallV (rest := []) hx hb hts hown hE hz hI hml hl.1 (mX7_sales t19 _ et32) (cwX7_sales hts ⟨Nat.le_of_ble_eq_true rfl, Nat.le_of_ble_eq_true rfl⟩) ⟨Nat.le_of_ble_eq_true rfl, Nat.le_of_ble_eq_true rfl⟩ rfl rfl (lv_room (Nat.le_of_ble_eq_true rfl)) dX7_buyers_32 (fun H locs hI => ?_)
      refine lv_iload_n hx hb dX7_buyers_35 rfl (lv_at hl 1 rfl) ?_
      refine lv_iconst (v := (-1 : Int32)) hx hb dX7_buyers_36 (by decide) ?_
      refine lv_icmp_ne (tgt := 47) hx hb dX7_buyers_37 (by decide) (fun hc => ?_) (fun hc => ?_)
      · replace hf := ineg hc hf
        refine lv_iconst (v := (0 : Int32)) hx hb dX7_buyers_47 (by decide) ?_
        refine lv_istore_n (lv' := [(2, .int (0 : Int32)), (0, .ref o), (1, .int a1)]) hx hb dX7_buyers_48 rfl hl (by decide) rfl (fun ls hl => ?_)
        refine lv_iconst (v := (-1 : Int32)) hx hb dX7_buyers_49 (by decide) ?_
        refine lv_istore_n (lv' := [(3, .int (-1 : Int32)), (2, .int (0 : Int32)), (0, .ref o), (1, .int a1)]) hx hb dX7_buyers_50 rfl hl (by decide) rfl (fun ls hl => ?_)
        refine lv_iconst (v := (0 : Int32)) hx hb dX7_buyers_51 (by decide) ?_
        refine lv_istore (lv' := [(4, .int (0 : Int32)), (3, .int (-1 : Int32)), (2, .int (0 : Int32)), (0, .ref o), (1, .int a1)]) hx hb dX7_buyers_52 hl (by decide) rfl (fun ls hl => ?_)
        obtain ⟨e54, he54, hf⟩ := obd hf
        have hs54 : ∀ (τ : Mm) (c1 : Int32), ∀ (w54 : Int32 × Int32 × Int32) (o54 : (Int32 × Int32 × Int32) ⊕ (Int32)), X7_buyers_L54 τ c1 w54 = some o54 → (∀ wx_, o54 = .inl wx_ → ∀ (H : Heap) (locs : List Loc) (ls : Array Slot), IT D cI cZ o s H locs τ → lv_has ls 6 [(0, .ref o), (1, .int c1), (2, .int wx_.1), (3, .int wx_.2.1), (4, .int wx_.2.2)] → W p l e ({ frames := 698, cells := 0, slots := 0, locals := 20188 } : Room) s m args below meth c H locs 0 0 Q (F0 m 54 ls [])) → (∀ ex_, o54 = .inr ex_ → ∀ (H : Heap) (locs : List Loc) (ls : Array Slot), IT D cI cZ o s H locs τ → lv_has ls 6 [(3, .int ex_)] → W p l e ({ frames := 698, cells := 0, slots := 0, locals := 20188 } : Room) s m args below meth c H locs 0 0 Q (F0 m 184 ls [])) → ∀ (H : Heap) (locs : List Loc) (ls : Array Slot), IT D cI cZ o s H locs τ → lv_has ls 6 [(0, .ref o), (1, .int c1), (2, .int w54.1), (3, .int w54.2.1), (4, .int w54.2.2)] → W p l e ({ frames := 698, cells := 0, slots := 0, locals := 20188 } : Room) s m args below meth c H locs 0 0 Q (F0 m 54 ls []) := by
          intro τ c1 w54 o54 hf hk hq H locs ls hI hl
          unfold X7_buyers_L54 at hf
          refine lv_iload hx hb dX7_buyers_54 (lv_at hl 4 rfl) ?_
          refine lv_iload_n hx hb dX7_buyers_56 rfl (lv_at hl 1 rfl) ?_
          refine lv_icmp_gt (tgt := 184) hx hb dX7_buyers_57 (by decide) (fun hc => ?_) (fun hc => ?_)
          · replace hf := ipos hc hf
            exact hq _ (Option.some.inj hf).symm H locs ls hI (lv_sub hl [3] rfl)
          · replace hf := ineg hc hf
            refine lv_iconst (v := (-1 : Int32)) hx hb dX7_buyers_60 (by decide) ?_
            refine lv_istore_n (lv' := [(3, .int (-1 : Int32)), (0, .ref o), (1, .int c1), (2, .int w54.1), (4, .int w54.2.2)]) hx hb dX7_buyers_61 rfl hl (by decide) rfl (fun ls hl => ?_)
            refine lv_aload_n hx hb dX7_buyers_62 rfl (lv_at hl 1 rfl) ?_
            refine tget hx hb hts hown hE hI 22 (by decide) q2122 rfl dX7_buyers_63 ?_
            refine lv_bipush (v := (64 : Int32)) hx hb dX7_buyers_66 (by decide) ?_
            refine lv_iload hx hb dX7_buyers_68 (lv_at hl 4 rfl) ?_
            refine lv_iconst (v := (1 : Int32)) hx hb dX7_buyers_70 (by decide) ?_
            refine lv_iadd hx hb dX7_buyers_71 ?_
            refine lv_imul hx hb dX7_buyers_72 ?_
            refine lv_iload_n hx hb dX7_buyers_73 rfl (lv_at hl 3 rfl) ?_
            refine lv_iadd hx hb dX7_buyers_74 ?_
            obtain ⟨x75, ex75, hf⟩ := obd hf
            refine tald hx hb hE hI 9 576 rfl ex75 dX7_buyers_75 ?_
            refine lv_aload_n hx hb dX7_buyers_76 rfl (lv_at hl 1 rfl) ?_
            refine tget hx hb hts hown hE hI 22 (by decide) q2122 rfl dX7_buyers_77 ?_
            refine lv_bipush (v := (64 : Int32)) hx hb dX7_buyers_80 (by decide) ?_
            refine lv_iload hx hb dX7_buyers_82 (lv_at hl 4 rfl) ?_
            refine lv_imul hx hb dX7_buyers_84 ?_
            refine lv_iload_n hx hb dX7_buyers_85 rfl (lv_at hl 3 rfl) ?_
            refine lv_iadd hx hb dX7_buyers_86 ?_
            obtain ⟨x87, ex87, hf⟩ := obd hf
            refine tald hx hb hE hI 9 576 rfl ex87 dX7_buyers_87 ?_
            refine lv_icmp_ne (tgt := 94) hx hb dX7_buyers_88 (by decide) (fun hc => ?_) (fun hc => ?_)
            · replace hf := ineg hc hf
              refine lv_aload_n hx hb dX7_buyers_94 rfl (lv_at hl 1 rfl) ?_
              refine tget hx hb hts hown hE hI 1 (by decide) q2101 rfl dX7_buyers_95 ?_
              refine lv_iconst (v := (3 : Int32)) hx hb dX7_buyers_98 (by decide) ?_
              refine taldc hx hb hE hI 1 781 3 rfl (by decide) (by decide) dX7_buyers_99 ?_
              refine lv_iconst (v := (1 : Int32)) hx hb dX7_buyers_100 (by decide) ?_
              refine lv_isub hx hb dX7_buyers_101 ?_
              obtain ⟨v102, ev102, hf⟩ := obd hf
              refine nmI ev102 ?_
              refine lv_istore (lv' := [(5, .int v102), (3, .int (-1 : Int32)), (0, .ref o), (1, .int c1), (2, .int w54.1), (4, .int w54.2.2)]) hx hb dX7_buyers_102 hl (by decide) rfl (fun ls hl => ?_)
              obtain ⟨e104, he104, hf⟩ := obd hf
              have hs104 : ∀ (τ : Mm) (c1 : Int32) (c2 : Int32) (c4 : Int32), ∀ (w104 : Int32 × Int32) (o104 : (Int32 × Int32) ⊕ (Int32)), X7_buyers_L104 τ c1 c2 c4 w104 = some o104 → (∀ wx_, o104 = .inl wx_ → ∀ (H : Heap) (locs : List Loc) (ls : Array Slot), IT D cI cZ o s H locs τ → lv_has ls 6 [(0, .ref o), (1, .int c1), (2, .int c2), (3, .int wx_.1), (4, .int c4), (5, .int wx_.2)] → W p l e ({ frames := 698, cells := 0, slots := 0, locals := 20188 } : Room) s m args below meth c H locs 0 0 Q (F0 m 104 ls [])) → (∀ ex_, o104 = .inr ex_ → ∀ (H : Heap) (locs : List Loc) (ls : Array Slot), IT D cI cZ o s H locs τ → lv_has ls 6 [(0, .ref o), (1, .int c1), (2, .int c2), (3, .int ex_), (4, .int c4)] → W p l e ({ frames := 698, cells := 0, slots := 0, locals := 20188 } : Room) s m args below meth c H locs 0 0 Q (F0 m 172 ls [])) → ∀ (H : Heap) (locs : List Loc) (ls : Array Slot), IT D cI cZ o s H locs τ → lv_has ls 6 [(0, .ref o), (1, .int c1), (2, .int c2), (3, .int w104.1), (4, .int c4), (5, .int w104.2)] → W p l e ({ frames := 698, cells := 0, slots := 0, locals := 20188 } : Room) s m args below meth c H locs 0 0 Q (F0 m 104 ls []) := by
                intro τ c1 c2 c4 w104 o104 hf hk hq H locs ls hI hl
                unfold X7_buyers_L104 at hf
                refine lv_iload hx hb dX7_buyers_104 (lv_at hl 5 rfl) ?_
                refine lv_if_lt (tgt := 172) hx hb dX7_buyers_106 (by decide) (fun hc => ?_) (fun hc => ?_)
                · replace hf := ipos hc hf
                  exact hq _ (Option.some.inj hf).symm H locs ls hI (lv_sub hl [0, 1, 2, 3, 4] rfl)
                · replace hf := ineg hc hf
                  refine lv_aload_n hx hb dX7_buyers_109 rfl (lv_at hl 0 rfl) ?_
                  refine lv_iload hx hb dX7_buyers_110 (lv_at hl 4 rfl) ?_
                  refine lv_iload hx hb dX7_buyers_112 (lv_at hl 5 rfl) ?_
                  refine lv_iload_n hx hb dX7_buyers_114 rfl (lv_at hl 2 rfl) ?_
                  obtain ⟨x115, ex115, hf⟩ := obd hf
                  refine tcallI (rest := []) hx hb hts hown hE hz hI hml hl.1 (mX7_mayBuy τ c4 w104.2 c2 _ ex115) (cwX7_mayBuy hts ⟨Nat.le_of_ble_eq_true rfl, Nat.le_of_ble_eq_true rfl⟩) ⟨Nat.le_of_ble_eq_true rfl, Nat.le_of_ble_eq_true rfl⟩ rfl rfl (lv_room (Nat.le_of_ble_eq_true rfl)) dX7_buyers_115 (fun H locs hI => ?_)
                  refine lv_if_eq (tgt := 166) hx hb dX7_buyers_118 (by decide) (fun hc => ?_) (fun hc => ?_)
                  · replace hf := ipos hc hf
                    obtain ⟨v166, ev166, hf⟩ := obd hf
                    refine lv_iinc (v := v166) (lv' := [(5, .int v166), (0, .ref o), (1, .int c1), (2, .int c2), (3, .int w104.1), (4, .int c4)]) hx hb dX7_buyers_166 hl (k := 5) rfl (iiE ev166 (by decide)) (by decide) rfl (fun ls hl => ?_)
                    refine lv_goto (tgt := 104) hx hb dX7_buyers_169 (by decide) ?_
                    exact hk _ (Option.some.inj hf).symm H locs ls hI (lv_sub hl [1, 2, 3, 4, 5, 0] rfl)
                  · replace hf := ineg hc hf
                    refine lv_aload_n hx hb dX7_buyers_121 rfl (lv_at hl 0 rfl) ?_
                    refine tget hx hb hts hown hE hI 23 (by decide) q2123 rfl dX7_buyers_122 ?_
                    refine lv_iload hx hb dX7_buyers_125 (lv_at hl 4 rfl) ?_
                    obtain ⟨x127, ex127, hf⟩ := obd hf
                    refine tald hx hb hE hI 10 8 rfl ex127 dX7_buyers_127 ?_
                    refine lv_aload_n hx hb dX7_buyers_128 rfl (lv_at hl 0 rfl) ?_
                    refine tget hx hb hts hown hE hI 22 (by decide) q2122 rfl dX7_buyers_129 ?_
                    refine lv_bipush (v := (64 : Int32)) hx hb dX7_buyers_132 (by decide) ?_
                    refine lv_iload hx hb dX7_buyers_134 (lv_at hl 4 rfl) ?_
                    refine lv_iconst (v := (1 : Int32)) hx hb dX7_buyers_136 (by decide) ?_
                    refine lv_iadd hx hb dX7_buyers_137 ?_
                    refine lv_imul hx hb dX7_buyers_138 ?_
                    refine lv_iload_n hx hb dX7_buyers_139 rfl (lv_at hl 2 rfl) ?_
                    refine lv_iconst (v := (1 : Int32)) hx hb dX7_buyers_140 (by decide) ?_
                    refine lv_iload hx hb dX7_buyers_141 (lv_at hl 5 rfl) ?_
                    refine lv_ishl hx hb dX7_buyers_143 ?_
                    refine lv_ior hx hb dX7_buyers_144 ?_
                    refine lv_iadd hx hb dX7_buyers_145 ?_
                    obtain ⟨x146, ex146, hf⟩ := obd hf
                    refine tald hx hb hE hI 9 576 rfl ex146 dX7_buyers_146 ?_
                    refine lv_iadd hx hb dX7_buyers_147 ?_
                    refine lv_aload_n hx hb dX7_buyers_148 rfl (lv_at hl 0 rfl) ?_
                    refine tget hx hb hts hown hE hI 22 (by decide) q2122 rfl dX7_buyers_149 ?_
                    refine lv_bipush (v := (64 : Int32)) hx hb dX7_buyers_152 (by decide) ?_
                    refine lv_iload hx hb dX7_buyers_154 (lv_at hl 4 rfl) ?_
                    refine lv_imul hx hb dX7_buyers_156 ?_
                    refine lv_iload_n hx hb dX7_buyers_157 rfl (lv_at hl 2 rfl) ?_
                    refine lv_iadd hx hb dX7_buyers_158 ?_
                    obtain ⟨x159, ex159, hf⟩ := obd hf
                    refine tald hx hb hE hI 9 576 rfl ex159 dX7_buyers_159 ?_
                    refine lv_icmp_ne (tgt := 166) hx hb dX7_buyers_160 (by decide) (fun hc => ?_) (fun hc => ?_)
                    · replace hf := ineg hc hf
                      obtain ⟨v166_12, ev166_12, hf⟩ := obd hf
                      refine lv_iinc (v := v166_12) (lv' := [(5, .int v166_12), (0, .ref o), (1, .int c1), (2, .int c2), (3, .int w104.1), (4, .int c4)]) hx hb dX7_buyers_166 hl (k := 5) rfl (iiE ev166_12 (by decide)) (by decide) rfl (fun ls hl => ?_)
                      refine lv_goto (tgt := 104) hx hb dX7_buyers_169 (by decide) ?_
                      exact hk _ (Option.some.inj hf).symm H locs ls hI (lv_sub hl [1, 2, 3, 4, 5, 0] rfl)
                    · replace hf := ipos hc hf
                      refine lv_iload hx hb dX7_buyers_163 (lv_at hl 5 rfl) ?_
                      refine lv_istore_n (lv' := [(3, .int w104.2), (0, .ref o), (1, .int c1), (2, .int c2), (4, .int c4), (5, .int w104.2)]) hx hb dX7_buyers_165 rfl hl (by decide) rfl (fun ls hl => ?_)
                      obtain ⟨v166_13, ev166_13, hf⟩ := obd hf
                      refine lv_iinc (v := v166_13) (lv' := [(5, .int v166_13), (3, .int w104.2), (0, .ref o), (1, .int c1), (2, .int c2), (4, .int c4)]) hx hb dX7_buyers_166 hl (k := 5) rfl (iiE ev166_13 (by decide)) (by decide) rfl (fun ls hl => ?_)
                      refine lv_goto (tgt := 104) hx hb dX7_buyers_169 (by decide) ?_
                      exact hk _ (Option.some.inj hf).symm H locs ls hI (lv_sub hl [2, 3, 4, 1, 5, 0] rfl)
              refine loopO_W (Wat := fun w104 => ∀ (H : Heap) (locs : List Loc) (ls : Array Slot), IT D cI cZ o s H locs τ → lv_has ls 6 [(0, .ref o), (1, .int c1), (2, .int w54.1), (3, .int w104.1), (4, .int w54.2.2), (5, .int w104.2)] → W p l e ({ frames := 698, cells := 0, slots := 0, locals := 20188 } : Room) s m args below meth c H locs 0 0 Q (F0 m 104 ls [])) (Wex := fun ex_ => ∀ (H : Heap) (locs : List Loc) (ls : Array Slot), IT D cI cZ o s H locs τ → lv_has ls 6 [(0, .ref o), (1, .int c1), (2, .int w54.1), (3, .int ex_), (4, .int w54.2.2)] → W p l e ({ frames := 698, cells := 0, slots := 0, locals := 20188 } : Room) s m args below meth c H locs 0 0 Q (F0 m 172 ls [])) (hs104 τ c1 w54.1 w54.2.2) FU _ e104 he104 ?_ H locs ls hI (lv_sub hl [2, 3, 4, 1, 5, 0] rfl)
              · skip
                intro H locs ls hI hl
                refine lv_iload_n hx hb dX7_buyers_172 rfl (lv_at hl 2 rfl) ?_
                refine lv_iconst (v := (1 : Int32)) hx hb dX7_buyers_173 (by decide) ?_
                refine lv_iload_n hx hb dX7_buyers_174 rfl (lv_at hl 3 rfl) ?_
                refine lv_ishl hx hb dX7_buyers_175 ?_
                refine lv_ior hx hb dX7_buyers_176 ?_
                obtain ⟨v177, ev177, hf⟩ := obd hf
                refine nmI ev177 ?_
                refine lv_istore_n (lv' := [(2, .int v177), (0, .ref o), (1, .int c1), (3, .int e104), (4, .int w54.2.2)]) hx hb dX7_buyers_177 rfl hl (by decide) rfl (fun ls hl => ?_)
                obtain ⟨v178, ev178, hf⟩ := obd hf
                refine lv_iinc (v := v178) (lv' := [(4, .int v178), (2, .int v177), (0, .ref o), (1, .int c1), (3, .int e104)]) hx hb dX7_buyers_178 hl (k := 4) rfl (iiE ev178 (by decide)) (by decide) rfl (fun ls hl => ?_)
                refine lv_goto (tgt := 54) hx hb dX7_buyers_181 (by decide) ?_
                exact hk _ (Option.some.inj hf).symm H locs ls hI (lv_sub hl [2, 3, 1, 4, 0] rfl)
            · replace hf := ipos hc hf
              refine lv_goto (tgt := 178) hx hb dX7_buyers_91 (by decide) ?_
              obtain ⟨v178_16, ev178_16, hf⟩ := obd hf
              refine lv_iinc (v := v178_16) (lv' := [(4, .int v178_16), (3, .int (-1 : Int32)), (0, .ref o), (1, .int c1), (2, .int w54.1)]) hx hb dX7_buyers_178 hl (k := 4) rfl (iiE ev178_16 (by decide)) (by decide) rfl (fun ls hl => ?_)
              refine lv_goto (tgt := 54) hx hb dX7_buyers_181 (by decide) ?_
              exact hk _ (Option.some.inj hf).symm H locs ls hI (lv_sub hl [2, 3, 4, 1, 0] rfl)
        refine loopO_W (Wat := fun w54 => ∀ (H : Heap) (locs : List Loc) (ls : Array Slot), IT D cI cZ o s H locs t32 → lv_has ls 6 [(0, .ref o), (1, .int a1), (2, .int w54.1), (3, .int w54.2.1), (4, .int w54.2.2)] → W p l e ({ frames := 698, cells := 0, slots := 0, locals := 20188 } : Room) s m args below meth c H locs 0 0 Q (F0 m 54 ls [])) (Wex := fun ex_ => ∀ (H : Heap) (locs : List Loc) (ls : Array Slot), IT D cI cZ o s H locs t32 → lv_has ls 6 [(3, .int ex_)] → W p l e ({ frames := 698, cells := 0, slots := 0, locals := 20188 } : Room) s m args below meth c H locs 0 0 Q (F0 m 184 ls [])) (hs54 t32 a1) FU _ e54 he54 ?_ H locs ls hI (lv_sub hl [3, 4, 2, 1, 0] rfl)
        · skip
          intro H locs ls hI hl
          refine lv_iload_n hx hb dX7_buyers_184 rfl (lv_at hl 0 rfl) ?_
          have hf := Prod.mk.inj (Option.some.inj hf)
          rw [hf.1]
          exact hret H locs 185 ls (hf.2 ▸ hI) dX7_buyers_185
      · replace hf := ipos hc hf
        refine lv_aload_n hx hb dX7_buyers_40 rfl (lv_at hl 0 rfl) ?_
        refine tget hx hb hts hown hE hI 22 (by decide) q2122 rfl dX7_buyers_41 ?_
        refine lv_iconst (v := (0 : Int32)) hx hb dX7_buyers_44 (by decide) ?_
        refine taldc hx hb hE hI 9 576 0 rfl (by decide) (by decide) dX7_buyers_45 ?_
        have hf := Prod.mk.inj (Option.some.inj hf)
        rw [hf.1]
        exact hret H locs 46 ls (hf.2 ▸ hI) dX7_buyers_46
    · replace hf := ineg hc hf
      refine lv_iconst (v := (0 : Int32)) hx hb dX7_buyers_29 (by decide) ?_
      have hf := Prod.mk.inj (Option.some.inj hf)
      rw [hf.1]
      exact hret H locs 30 ls (hf.2 ▸ hI) dX7_buyers_30
  have hJ18 : ∀ (τ : Mm) (H : Heap) (locs : List Loc) (ls : Array Slot), X7_buyers_J18 τ a1 = some (r, τ') → IT D cI cZ o s H locs τ → lv_has ls 6 [(0, .ref o), (1, .int a1)] → W p l e ({ frames := 698, cells := 0, slots := 0, locals := 20188 } : Room) s m args below meth c H locs 0 0 Q (F0 m 18 ls [.ref o]) := by
    intro τ  H locs ls hf hI hl
    unfold X7_buyers_J18 at hf
    refine lv_iconst (v := (0 : Int32)) hx hb dX7_buyers_18 (by decide) ?_
    exact hJ19 τ (0 : Int32) H locs ls hf hI  (lv_sub hl [0, 1] rfl)
  refine lv_aload_n hx hb dX7_buyers_0 rfl (lv_at hl 0 rfl) ?_
  refine lv_iload_n hx hb dX7_buyers_1 rfl (lv_at hl 1 rfl) ?_
  refine lv_iconst (v := (-1 : Int32)) hx hb dX7_buyers_2 (by decide) ?_
  refine lv_icmp_eq (tgt := 18) hx hb dX7_buyers_3 (by decide) (fun hc => ?_) (fun hc => ?_)
  · replace hf := ipos hc hf
    exact hJ18 τ H locs ls hf hI  (lv_sub hl [0, 1] rfl)
  · replace hf := ineg hc hf
    refine lv_aload_n hx hb dX7_buyers_6 rfl (lv_at hl 0 rfl) ?_
    refine lv_iload_n hx hb dX7_buyers_7 rfl (lv_at hl 1 rfl) ?_
    obtain ⟨x8, ex8, hf⟩ := obd hf
    refine tcallI (rest := [.ref o]) hx hb hts hown hE hz hI hml hl.1 (mX7_isDeed τ a1 _ ex8) (cwX7_isDeed hts ⟨Nat.le_of_ble_eq_true rfl, Nat.le_of_ble_eq_true rfl⟩) ⟨Nat.le_of_ble_eq_true rfl, Nat.le_of_ble_eq_true rfl⟩ rfl rfl (lv_room (Nat.le_of_ble_eq_true rfl)) dX7_buyers_8 (fun H locs hI => ?_)
    refine lv_if_ne (tgt := 18) hx hb dX7_buyers_11 (by decide) (fun hc => ?_) (fun hc => ?_)
    · replace hf := ineg hc hf
      exact hJ18 τ H locs ls hf hI  (lv_sub hl [0, 1] rfl)
    · replace hf := ipos hc hf
      refine lv_iconst (v := (1 : Int32)) hx hb dX7_buyers_14 (by decide) ?_
      refine lv_goto (tgt := 19) hx hb dX7_buyers_15 (by decide) ?_
      exact hJ19 τ (1 : Int32) H locs ls hf hI  (lv_sub hl [0, 1] rfl)


def X7_hasBy_J53 (τ : Mm) (a1 : Int32) (a3 : Int32) (a4 : Int32) (y0 : Int32) : Option (Int32 × Mm) :=
  if a3 = (1 : Int32) then
    some ((y0 - (0 : Int32)), τ)
  else
    if a4 = (0 : Int32) then
      (X7_costsOf τ a1).bind fun x73 =>
      some ((y0 - (x73.1 / (2 : Int32))), x73.2)
    else
      (X7_costsOf τ a1).bind fun x83 =>
      some ((y0 - x83.1), x83.2)
def X7_hasBy_J13 (τ : Mm) (a1 : Int32) (a2 : Int32) (a3 : Int32) (a4 : Int32) : Option (Int32 × Mm) :=
  (X7_of τ a1 (2 : Int32)).bind fun x17 =>
  if a2 = x17 then
    (X7_of τ a1 (3 : Int32)).bind fun x26 =>
    X7_hasBy_J53 τ a1 a3 a4 x26
  else
    (X7_of τ a1 (1 : Int32)).bind fun x36 =>
    if a2 = x36 then
      (X7_of τ a1 (3 : Int32)).bind fun x45 =>
      X7_hasBy_J53 τ a1 a3 a4 (-x45)
    else
      X7_hasBy_J53 τ a1 a3 a4 (0 : Int32)
def X7_hasBy (τ : Mm) (a1 : Int32) (a2 : Int32) (a3 : Int32) (a4 : Int32) : Option (Int32 × Mm) :=
  if a3 = (1 : Int32) then
    if a4 = (1 : Int32) then
      some ((0 : Int32), τ)
    else
      X7_hasBy_J13 τ a1 a2 a3 a4
  else
    X7_hasBy_J13 τ a1 a2 a3 a4
set_option maxHeartbeats 4000000 in
theorem mX7_hasBy (τ : Mm) (a1 : Int32) (a2 : Int32) (a3 : Int32) (a4 : Int32) (r : Int32) (τ' : Mm) (hf : X7_hasBy τ a1 a2 a3 a4 = some (r, τ')) : TMi yX7_hasBy cX7_hasBy 6 (some .int) 694 20091 (fun aK => [.int a1, .int a2, .int a3, .int a4]) r τ τ' := by
  refine TMi.of (by decide) rfl (fun _ _ => Nat.le_of_ble_eq_true rfl) ?_
  intro p l e s m args below meth c D cI cZ o z aK aV Q ls hz hx hb hml hown hts hE hret hI hl
  obtain ⟨H, eH⟩ : ∃ H, H = s.heap := ⟨_, rfl⟩
  obtain ⟨locs, eL⟩ : ∃ L : List Loc, L = [] := ⟨_, rfl⟩
  rw [← eH, ← eL] at hI ⊢
  have hl : lv_has ls 6 [(0, .ref o), (1, .int a1), (2, .int a2), (3, .int a3), (4, .int a4)] := hl
  unfold X7_hasBy at hf
  have hJ53 : ∀ (τ : Mm) (y0 : Int32) (H : Heap) (locs : List Loc) (ls : Array Slot), X7_hasBy_J53 τ a1 a3 a4 y0 = some (r, τ') → IT D cI cZ o s H locs τ → lv_has ls 6 [(0, .ref o), (1, .int a1), (3, .int a3), (4, .int a4)] → W p l e ({ frames := 694, cells := 0, slots := 0, locals := 20091 } : Room) s m args below meth c H locs 0 0 Q (F0 m 53 ls [.int y0]) := by
    intro τ y0 H locs ls hf hI hl
    unfold X7_hasBy_J53 at hf
    refine lv_istore (lv' := [(5, .int y0), (0, .ref o), (1, .int a1), (3, .int a3), (4, .int a4)]) hx hb dX7_hasBy_53 hl (by decide) rfl (fun ls hl => ?_)
    refine lv_iload hx hb dX7_hasBy_55 (lv_at hl 0 rfl) ?_
    refine lv_iload_n hx hb dX7_hasBy_57 rfl (lv_at hl 3 rfl) ?_
    refine lv_iconst (v := (1 : Int32)) hx hb dX7_hasBy_58 (by decide) ?_
    refine lv_icmp_ne (tgt := 66) hx hb dX7_hasBy_59 (by decide) (fun hc => ?_) (fun hc => ?_)
    · replace hf := ineg hc hf
      refine lv_iload hx hb dX7_hasBy_66 (lv_at hl 4 rfl) ?_
      refine lv_if_ne (tgt := 81) hx hb dX7_hasBy_68 (by decide) (fun hc => ?_) (fun hc => ?_)
      · replace hf := ineg hc hf
        refine lv_aload_n hx hb dX7_hasBy_81 rfl (lv_at hl 1 rfl) ?_
        refine lv_iload_n hx hb dX7_hasBy_82 rfl (lv_at hl 2 rfl) ?_
        obtain ⟨x83, ex83, hf⟩ := obd hf
        refine tcallI (rest := [.int y0]) hx hb hts hown hE hz hI hml hl.1 (mX7_costsOf τ a1 _ _ ex83) (cwX7_costsOf hts ⟨Nat.le_of_ble_eq_true rfl, Nat.le_of_ble_eq_true rfl⟩) ⟨Nat.le_of_ble_eq_true rfl, Nat.le_of_ble_eq_true rfl⟩ rfl rfl (lv_room (Nat.le_of_ble_eq_true rfl)) dX7_hasBy_83 (fun H locs hI => ?_)
        refine lv_isub hx hb dX7_hasBy_86 ?_
        have hf := Prod.mk.inj (Option.some.inj hf)
        rw [hf.1]
        exact hret H locs 87 ls (hf.2 ▸ hI) dX7_hasBy_87
      · replace hf := ipos hc hf
        refine lv_aload_n hx hb dX7_hasBy_71 rfl (lv_at hl 1 rfl) ?_
        refine lv_iload_n hx hb dX7_hasBy_72 rfl (lv_at hl 2 rfl) ?_
        obtain ⟨x73, ex73, hf⟩ := obd hf
        refine tcallI (rest := [.int y0]) hx hb hts hown hE hz hI hml hl.1 (mX7_costsOf τ a1 _ _ ex73) (cwX7_costsOf hts ⟨Nat.le_of_ble_eq_true rfl, Nat.le_of_ble_eq_true rfl⟩) ⟨Nat.le_of_ble_eq_true rfl, Nat.le_of_ble_eq_true rfl⟩ rfl rfl (lv_room (Nat.le_of_ble_eq_true rfl)) dX7_hasBy_73 (fun H locs hI => ?_)
        refine lv_iconst (v := (2 : Int32)) hx hb dX7_hasBy_76 (by decide) ?_
        refine lv_idiv hx hb dX7_hasBy_77 (by decide) ?_
        refine lv_goto (tgt := 86) hx hb dX7_hasBy_78 (by decide) ?_
        refine lv_isub hx hb dX7_hasBy_86 ?_
        have hf := Prod.mk.inj (Option.some.inj hf)
        rw [hf.1]
        exact hret H locs 87 ls (hf.2 ▸ hI) dX7_hasBy_87
    · replace hf := ipos hc hf
      refine lv_iconst (v := (0 : Int32)) hx hb dX7_hasBy_62 (by decide) ?_
      refine lv_goto (tgt := 86) hx hb dX7_hasBy_63 (by decide) ?_
      refine lv_isub hx hb dX7_hasBy_86 ?_
      have hf := Prod.mk.inj (Option.some.inj hf)
      rw [hf.1]
      exact hret H locs 87 ls (hf.2 ▸ hI) dX7_hasBy_87
  have hJ13 : ∀ (τ : Mm) (H : Heap) (locs : List Loc) (ls : Array Slot), X7_hasBy_J13 τ a1 a2 a3 a4 = some (r, τ') → IT D cI cZ o s H locs τ → lv_has ls 6 [(0, .ref o), (1, .int a1), (2, .int a2), (3, .int a3), (4, .int a4)] → W p l e ({ frames := 694, cells := 0, slots := 0, locals := 20091 } : Room) s m args below meth c H locs 0 0 Q (F0 m 13 ls []) := by
    intro τ  H locs ls hf hI hl
    unfold X7_hasBy_J13 at hf
    refine lv_iload_n hx hb dX7_hasBy_13 rfl (lv_at hl 2 rfl) ?_
    refine lv_aload_n hx hb dX7_hasBy_14 rfl (lv_at hl 0 rfl) ?_
    refine lv_iload_n hx hb dX7_hasBy_15 rfl (lv_at hl 1 rfl) ?_
    refine lv_iconst (v := (2 : Int32)) hx hb dX7_hasBy_16 (by decide) ?_
    obtain ⟨x17, ex17, hf⟩ := obd hf
    refine tcallI (rest := [.int a2]) hx hb hts hown hE hz hI hml hl.1 (mX7_of τ a1 (2 : Int32) _ ex17) (cwX7_of hts ⟨Nat.le_of_ble_eq_true rfl, Nat.le_of_ble_eq_true rfl⟩) ⟨Nat.le_of_ble_eq_true rfl, Nat.le_of_ble_eq_true rfl⟩ rfl rfl (lv_room (Nat.le_of_ble_eq_true rfl)) dX7_hasBy_17 (fun H locs hI => ?_)
    refine lv_icmp_ne (tgt := 32) hx hb dX7_hasBy_20 (by decide) (fun hc => ?_) (fun hc => ?_)
    · replace hf := ineg hc hf
      refine lv_iload_n hx hb dX7_hasBy_32 rfl (lv_at hl 2 rfl) ?_
      refine lv_aload_n hx hb dX7_hasBy_33 rfl (lv_at hl 0 rfl) ?_
      refine lv_iload_n hx hb dX7_hasBy_34 rfl (lv_at hl 1 rfl) ?_
      refine lv_iconst (v := (1 : Int32)) hx hb dX7_hasBy_35 (by decide) ?_
      obtain ⟨x36, ex36, hf⟩ := obd hf
      refine tcallI (rest := [.int a2]) hx hb hts hown hE hz hI hml hl.1 (mX7_of τ a1 (1 : Int32) _ ex36) (cwX7_of hts ⟨Nat.le_of_ble_eq_true rfl, Nat.le_of_ble_eq_true rfl⟩) ⟨Nat.le_of_ble_eq_true rfl, Nat.le_of_ble_eq_true rfl⟩ rfl rfl (lv_room (Nat.le_of_ble_eq_true rfl)) dX7_hasBy_36 (fun H locs hI => ?_)
      refine lv_icmp_ne (tgt := 52) hx hb dX7_hasBy_39 (by decide) (fun hc => ?_) (fun hc => ?_)
      · replace hf := ineg hc hf
        refine lv_iconst (v := (0 : Int32)) hx hb dX7_hasBy_52 (by decide) ?_
        exact hJ53 τ (0 : Int32) H locs ls hf hI  (lv_sub hl [0, 1, 3, 4] rfl)
      · replace hf := ipos hc hf
        refine lv_aload_n hx hb dX7_hasBy_42 rfl (lv_at hl 0 rfl) ?_
        refine lv_iload_n hx hb dX7_hasBy_43 rfl (lv_at hl 1 rfl) ?_
        refine lv_iconst (v := (3 : Int32)) hx hb dX7_hasBy_44 (by decide) ?_
        obtain ⟨x45, ex45, hf⟩ := obd hf
        refine tcallI (rest := []) hx hb hts hown hE hz hI hml hl.1 (mX7_of τ a1 (3 : Int32) _ ex45) (cwX7_of hts ⟨Nat.le_of_ble_eq_true rfl, Nat.le_of_ble_eq_true rfl⟩) ⟨Nat.le_of_ble_eq_true rfl, Nat.le_of_ble_eq_true rfl⟩ rfl rfl (lv_room (Nat.le_of_ble_eq_true rfl)) dX7_hasBy_45 (fun H locs hI => ?_)
        refine lv_ineg hx hb dX7_hasBy_48 ?_
        refine lv_goto (tgt := 53) hx hb dX7_hasBy_49 (by decide) ?_
        exact hJ53 τ (-x45) H locs ls hf hI  (lv_sub hl [0, 1, 3, 4] rfl)
    · replace hf := ipos hc hf
      refine lv_aload_n hx hb dX7_hasBy_23 rfl (lv_at hl 0 rfl) ?_
      refine lv_iload_n hx hb dX7_hasBy_24 rfl (lv_at hl 1 rfl) ?_
      refine lv_iconst (v := (3 : Int32)) hx hb dX7_hasBy_25 (by decide) ?_
      obtain ⟨x26, ex26, hf⟩ := obd hf
      refine tcallI (rest := []) hx hb hts hown hE hz hI hml hl.1 (mX7_of τ a1 (3 : Int32) _ ex26) (cwX7_of hts ⟨Nat.le_of_ble_eq_true rfl, Nat.le_of_ble_eq_true rfl⟩) ⟨Nat.le_of_ble_eq_true rfl, Nat.le_of_ble_eq_true rfl⟩ rfl rfl (lv_room (Nat.le_of_ble_eq_true rfl)) dX7_hasBy_26 (fun H locs hI => ?_)
      refine lv_goto (tgt := 53) hx hb dX7_hasBy_29 (by decide) ?_
      exact hJ53 τ x26 H locs ls hf hI  (lv_sub hl [0, 1, 3, 4] rfl)
  refine lv_iload_n hx hb dX7_hasBy_0 rfl (lv_at hl 3 rfl) ?_
  refine lv_iconst (v := (1 : Int32)) hx hb dX7_hasBy_1 (by decide) ?_
  refine lv_icmp_ne (tgt := 13) hx hb dX7_hasBy_2 (by decide) (fun hc => ?_) (fun hc => ?_)
  · replace hf := ineg hc hf
    exact hJ13 τ H locs ls hf hI  (lv_sub hl [0, 1, 2, 3, 4] rfl)
  · replace hf := ipos hc hf
    refine lv_iload hx hb dX7_hasBy_5 (lv_at hl 4 rfl) ?_
    refine lv_iconst (v := (1 : Int32)) hx hb dX7_hasBy_7 (by decide) ?_
    refine lv_icmp_ne (tgt := 13) hx hb dX7_hasBy_8 (by decide) (fun hc => ?_) (fun hc => ?_)
    · replace hf := ineg hc hf
      exact hJ13 τ H locs ls hf hI  (lv_sub hl [0, 1, 2, 3, 4] rfl)
    · replace hf := ipos hc hf
      refine lv_iconst (v := (0 : Int32)) hx hb dX7_hasBy_11 (by decide) ?_
      have hf := Prod.mk.inj (Option.some.inj hf)
      rw [hf.1]
      exact hret H locs 12 ls (hf.2 ▸ hI) dX7_hasBy_12
theorem cwX7_hasBy {R : Room} {s : State} {args : Array Value} {fr lo : Nat} (hts : ∀ w ∈ lw_all, w.before args s = true) (hR : fr + 1 ≤ R.frames ∧ 8 + (6 + 11) + lo ≤ R.locals) : CallW R s args RX7 RX7 387 yX7_hasBy cX7_hasBy 6 (some .int) (ws_ yX7_hasBy cX7_hasBy 6 (some .int)) ({ frames := fr, cells := 0, slots := 0, locals := lo }) 0 0 4 :=
  cwV 4 hts (lw_V q2660 q2662 qs128 q143 q2663) rfl rfl rfl (by decide +kernel) hR

def X7_rests_L69 (c1 : Int32) (c2 : Int32) (c3 : Int32) (w69 : Mm × Int32 × Int32) : Option ((Mm × Int32 × Int32) ⊕ (Mm × Int32)) :=
  if (4 : Int32) ≤ w69.2.2 then
    some (.inr (w69.1, w69.2.1))
  else
    (some (w69.2.2 / (2 : Int32))).bind fun v79 =>
    (some (w69.2.2 - w69.2.2 / (2 : Int32) * (2 : Int32))).bind fun v85 =>
    (X7_hasBy w69.1 c3 c1 ((1 : Int32) - v79) v85).bind fun x96 =>
    (X7_hasBy x96.2 c3 c1 v79 v85).bind fun x106 =>
    if x106.1 < x96.1 then
      (some (w69.2.2 + (1 : Int32))).bind fun v146 =>
      some (.inl (x106.2, w69.2.1, v146))
    else
      (X7_hasBy x106.2 c3 c2 ((1 : Int32) - v85) v79).bind fun x121 =>
      (X7_hasBy x121.2 c3 c2 v85 v79).bind fun x131 =>
      if x131.1 < x121.1 then
        (some (w69.2.2 + (1 : Int32))).bind fun v146_10 =>
        some (.inl (x131.2, w69.2.1, v146_10))
      else
        (some (w69.2.1 ||| ((1 : Int32) <<< (w69.2.2 &&& (31 : Int32))))).bind fun v144 =>
        (some (w69.2.2 + (1 : Int32))).bind fun v146_12 =>
        some (.inl (x131.2, v144, v146_12))
def X7_rests_J39 (τ : Mm) (a1 : Int32) (a2 : Int32) (a3 : Int32) (y0 : Int32) : Option (Int32 × Mm) :=
  (some (mup τ 10 0 y0)).bind fun t39 =>
  if (t39 10 0) ≤ (0 : Int32) then
    (X7_of t39 a3 (10 : Int32)).bind fun x55 =>
    if x55 = (0 : Int32) then
      (loopO (X7_rests_L69 a1 a2 a3) FU (t39, (0 : Int32), (0 : Int32))).bind fun e69 =>
      some (e69.2, e69.1)
    else
      some ((-1 : Int32), t39)
  else
    some ((0 : Int32), t39)
def X7_rests_J25 (τ : Mm) (a1 : Int32) (a2 : Int32) (a3 : Int32) : Option (Int32 × Mm) :=
  X7_rests_J39 τ a1 a2 a3 (1 : Int32)
def X7_rests (τ : Mm) (a1 : Int32) (a2 : Int32) (a3 : Int32) : Option (Int32 × Mm) :=
  (X7_isParty τ a1).bind fun x3 =>
  if x3 = (0 : Int32) then
    X7_rests_J25 τ a1 a2 a3
  else
    (X7_isParty τ a2).bind fun x11 =>
    if x11 = (0 : Int32) then
      X7_rests_J25 τ a1 a2 a3
    else
      (X7_isDeed τ a3).bind fun x19 =>
      if x19 = (0 : Int32) then
        X7_rests_J25 τ a1 a2 a3
      else
        if a1 = a2 then
          X7_rests_J39 τ a1 a2 a3 (2 : Int32)
        else
          X7_rests_J39 τ a1 a2 a3 (0 : Int32)
set_option maxHeartbeats 4000000 in
theorem mX7_rests (τ : Mm) (a1 : Int32) (a2 : Int32) (a3 : Int32) (r : Int32) (τ' : Mm) (hf : X7_rests τ a1 a2 a3 = some (r, τ')) : TMi yX7_rests cX7_rests 8 (some .int) 695 20116 (fun aK => [.int a1, .int a2, .int a3]) r τ τ' := by
  refine TMi.of (by decide) rfl (fun _ _ => Nat.le_of_ble_eq_true rfl) ?_
  intro p l e s m args below meth c D cI cZ o z aK aV Q ls hz hx hb hml hown hts hE hret hI hl
  obtain ⟨H, eH⟩ : ∃ H, H = s.heap := ⟨_, rfl⟩
  obtain ⟨locs, eL⟩ : ∃ L : List Loc, L = [] := ⟨_, rfl⟩
  rw [← eH, ← eL] at hI ⊢
  have hl : lv_has ls 8 [(0, .ref o), (1, .int a1), (2, .int a2), (3, .int a3)] := hl
  unfold X7_rests at hf
  have hJ39 : ∀ (τ : Mm) (y0 : Int32) (H : Heap) (locs : List Loc) (ls : Array Slot), X7_rests_J39 τ a1 a2 a3 y0 = some (r, τ') → IT D cI cZ o s H locs τ → lv_has ls 8 [(0, .ref o), (1, .int a1), (2, .int a2), (3, .int a3)] → W p l e ({ frames := 695, cells := 0, slots := 0, locals := 20116 } : Room) s m args below meth c H locs 0 0 Q (F0 m 39 ls [.int y0, .ref o]) := by
    intro τ y0 H locs ls hf hI hl
    unfold X7_rests_J39 at hf
    obtain ⟨t39, et39, hf⟩ := obd hf
    refine tput hx hb hts hown hE hI 0 (by decide) q2100 rfl (tyX7_ok 0 (by decide)) rfl rfl rfl et39 dX7_rests_39 (fun H locs hI => ?_)
    refine lv_aload_n hx hb dX7_rests_42 rfl (lv_at hl 0 rfl) ?_
    refine tget hx hb hts hown hE hI 0 (by decide) q2100 rfl dX7_rests_43 ?_
    refine lv_if_le (tgt := 51) hx hb dX7_rests_46 (by decide) (fun hc => ?_) (fun hc => ?_)
    · replace hf := ipos hc hf
      refine lv_aload_n hx hb dX7_rests_51 rfl (lv_at hl 0 rfl) ?_
      refine lv_iload_n hx hb dX7_rests_52 rfl (lv_at hl 3 rfl) ?_
      refine lv_bipush (v := (10 : Int32)) hx hb dX7_rests_53 (by decide) ?_
      obtain ⟨x55, ex55, hf⟩ := obd hf
      refine tcallI (rest := []) hx hb hts hown hE hz hI hml hl.1 (mX7_of t39 a3 (10 : Int32) _ ex55) (cwX7_of hts ⟨Nat.le_of_ble_eq_true rfl, Nat.le_of_ble_eq_true rfl⟩) ⟨Nat.le_of_ble_eq_true rfl, Nat.le_of_ble_eq_true rfl⟩ rfl rfl (lv_room (Nat.le_of_ble_eq_true rfl)) dX7_rests_55 (fun H locs hI => ?_)
      refine lv_if_eq (tgt := 63) hx hb dX7_rests_58 (by decide) (fun hc => ?_) (fun hc => ?_)
      · replace hf := ipos hc hf
        refine lv_iconst (v := (0 : Int32)) hx hb dX7_rests_63 (by decide) ?_
        refine lv_istore (lv' := [(4, .int (0 : Int32)), (0, .ref o), (1, .int a1), (2, .int a2), (3, .int a3)]) hx hb dX7_rests_64 hl (by decide) rfl (fun ls hl => ?_)
        refine lv_iconst (v := (0 : Int32)) hx hb dX7_rests_66 (by decide) ?_
        refine lv_istore (lv' := [(5, .int (0 : Int32)), (4, .int (0 : Int32)), (0, .ref o), (1, .int a1), (2, .int a2), (3, .int a3)]) hx hb dX7_rests_67 hl (by decide) rfl (fun ls hl => ?_)
        obtain ⟨e69, he69, hf⟩ := obd hf
        have hs69 : ∀ (c1 : Int32) (c2 : Int32) (c3 : Int32), ∀ (w69 : Mm × Int32 × Int32) (o69 : (Mm × Int32 × Int32) ⊕ (Mm × Int32)), X7_rests_L69 c1 c2 c3 w69 = some o69 → (∀ wx_, o69 = .inl wx_ → ∀ (H : Heap) (locs : List Loc) (ls : Array Slot), IT D cI cZ o s H locs wx_.1 → lv_has ls 8 [(0, .ref o), (1, .int c1), (2, .int c2), (3, .int c3), (4, .int wx_.2.1), (5, .int wx_.2.2)] → W p l e ({ frames := 695, cells := 0, slots := 0, locals := 20116 } : Room) s m args below meth c H locs 0 0 Q (F0 m 69 ls [])) → (∀ ex_, o69 = .inr ex_ → ∀ (H : Heap) (locs : List Loc) (ls : Array Slot), IT D cI cZ o s H locs ex_.1 → lv_has ls 8 [(4, .int ex_.2)] → W p l e ({ frames := 695, cells := 0, slots := 0, locals := 20116 } : Room) s m args below meth c H locs 0 0 Q (F0 m 152 ls [])) → ∀ (H : Heap) (locs : List Loc) (ls : Array Slot), IT D cI cZ o s H locs w69.1 → lv_has ls 8 [(0, .ref o), (1, .int c1), (2, .int c2), (3, .int c3), (4, .int w69.2.1), (5, .int w69.2.2)] → W p l e ({ frames := 695, cells := 0, slots := 0, locals := 20116 } : Room) s m args below meth c H locs 0 0 Q (F0 m 69 ls []) := by
          intro c1 c2 c3 w69 o69 hf hk hq H locs ls hI hl
          unfold X7_rests_L69 at hf
          refine lv_iload hx hb dX7_rests_69 (lv_at hl 5 rfl) ?_
          refine lv_iconst (v := (4 : Int32)) hx hb dX7_rests_71 (by decide) ?_
          refine lv_icmp_ge (tgt := 152) hx hb dX7_rests_72 (by decide) (fun hc => ?_) (fun hc => ?_)
          · replace hf := ipos hc hf
            exact hq _ (Option.some.inj hf).symm H locs ls hI (lv_sub hl [4] rfl)
          · replace hf := ineg hc hf
            refine lv_iload hx hb dX7_rests_75 (lv_at hl 5 rfl) ?_
            refine lv_iconst (v := (2 : Int32)) hx hb dX7_rests_77 (by decide) ?_
            refine lv_idiv hx hb dX7_rests_78 (by decide) ?_
            obtain ⟨v79, ev79, hf⟩ := obd hf
            refine nmI ev79 ?_
            refine lv_istore (lv' := [(6, .int v79), (0, .ref o), (1, .int c1), (2, .int c2), (3, .int c3), (4, .int w69.2.1), (5, .int w69.2.2)]) hx hb dX7_rests_79 hl (by decide) rfl (fun ls hl => ?_)
            refine lv_iload hx hb dX7_rests_81 (lv_at hl 6 rfl) ?_
            refine lv_iconst (v := (2 : Int32)) hx hb dX7_rests_83 (by decide) ?_
            refine lv_irem hx hb dX7_rests_84 (by decide) ?_
            obtain ⟨v85, ev85, hf⟩ := obd hf
            refine nmI ev85 ?_
            refine lv_istore (lv' := [(7, .int v85), (6, .int v79), (0, .ref o), (1, .int c1), (2, .int c2), (3, .int c3), (4, .int w69.2.1), (5, .int w69.2.2)]) hx hb dX7_rests_85 hl (by decide) rfl (fun ls hl => ?_)
            refine lv_aload_n hx hb dX7_rests_87 rfl (lv_at hl 2 rfl) ?_
            refine lv_iload_n hx hb dX7_rests_88 rfl (lv_at hl 5 rfl) ?_
            refine lv_iload_n hx hb dX7_rests_89 rfl (lv_at hl 3 rfl) ?_
            refine lv_iconst (v := (1 : Int32)) hx hb dX7_rests_90 (by decide) ?_
            refine lv_iload hx hb dX7_rests_91 (lv_at hl 1 rfl) ?_
            refine lv_isub hx hb dX7_rests_93 ?_
            refine lv_iload hx hb dX7_rests_94 (lv_at hl 0 rfl) ?_
            obtain ⟨x96, ex96, hf⟩ := obd hf
            refine tcallI (rest := []) hx hb hts hown hE hz hI hml hl.1 (mX7_hasBy w69.1 c3 c1 ((1 : Int32) - v79) v85 _ _ ex96) (cwX7_hasBy hts ⟨Nat.le_of_ble_eq_true rfl, Nat.le_of_ble_eq_true rfl⟩) ⟨Nat.le_of_ble_eq_true rfl, Nat.le_of_ble_eq_true rfl⟩ rfl rfl (lv_room (Nat.le_of_ble_eq_true rfl)) dX7_rests_96 (fun H locs hI => ?_)
            refine lv_aload_n hx hb dX7_rests_99 rfl (lv_at hl 2 rfl) ?_
            refine lv_iload_n hx hb dX7_rests_100 rfl (lv_at hl 5 rfl) ?_
            refine lv_iload_n hx hb dX7_rests_101 rfl (lv_at hl 3 rfl) ?_
            refine lv_iload hx hb dX7_rests_102 (lv_at hl 1 rfl) ?_
            refine lv_iload hx hb dX7_rests_104 (lv_at hl 0 rfl) ?_
            obtain ⟨x106, ex106, hf⟩ := obd hf
            refine tcallI (rest := [.int x96.1]) hx hb hts hown hE hz hI hml hl.1 (mX7_hasBy x96.2 c3 c1 v79 v85 _ _ ex106) (cwX7_hasBy hts ⟨Nat.le_of_ble_eq_true rfl, Nat.le_of_ble_eq_true rfl⟩) ⟨Nat.le_of_ble_eq_true rfl, Nat.le_of_ble_eq_true rfl⟩ rfl rfl (lv_room (Nat.le_of_ble_eq_true rfl)) dX7_rests_106 (fun H locs hI => ?_)
            refine lv_icmp_gt (tgt := 146) hx hb dX7_rests_109 (by decide) (fun hc => ?_) (fun hc => ?_)
            · replace hf := ipos hc hf
              obtain ⟨v146, ev146, hf⟩ := obd hf
              refine lv_iinc (v := v146) (lv' := [(5, .int v146), (7, .int v85), (6, .int v79), (0, .ref o), (1, .int c1), (2, .int c2), (3, .int c3), (4, .int w69.2.1)]) hx hb dX7_rests_146 hl (k := 7) rfl (iiE ev146 (by decide)) (by decide) rfl (fun ls hl => ?_)
              refine lv_goto (tgt := 69) hx hb dX7_rests_149 (by decide) ?_
              exact hk _ (Option.some.inj hf).symm H locs ls hI (lv_sub hl [3, 4, 5, 6, 7, 0] rfl)
            · replace hf := ineg hc hf
              refine lv_aload_n hx hb dX7_rests_112 rfl (lv_at hl 2 rfl) ?_
              refine lv_iload_n hx hb dX7_rests_113 rfl (lv_at hl 5 rfl) ?_
              refine lv_iload_n hx hb dX7_rests_114 rfl (lv_at hl 4 rfl) ?_
              refine lv_iconst (v := (1 : Int32)) hx hb dX7_rests_115 (by decide) ?_
              refine lv_iload hx hb dX7_rests_116 (lv_at hl 0 rfl) ?_
              refine lv_isub hx hb dX7_rests_118 ?_
              refine lv_iload hx hb dX7_rests_119 (lv_at hl 1 rfl) ?_
              obtain ⟨x121, ex121, hf⟩ := obd hf
              refine tcallI (rest := []) hx hb hts hown hE hz hI hml hl.1 (mX7_hasBy x106.2 c3 c2 ((1 : Int32) - v85) v79 _ _ ex121) (cwX7_hasBy hts ⟨Nat.le_of_ble_eq_true rfl, Nat.le_of_ble_eq_true rfl⟩) ⟨Nat.le_of_ble_eq_true rfl, Nat.le_of_ble_eq_true rfl⟩ rfl rfl (lv_room (Nat.le_of_ble_eq_true rfl)) dX7_rests_121 (fun H locs hI => ?_)
              refine lv_aload_n hx hb dX7_rests_124 rfl (lv_at hl 2 rfl) ?_
              refine lv_iload_n hx hb dX7_rests_125 rfl (lv_at hl 5 rfl) ?_
              refine lv_iload_n hx hb dX7_rests_126 rfl (lv_at hl 4 rfl) ?_
              refine lv_iload hx hb dX7_rests_127 (lv_at hl 0 rfl) ?_
              refine lv_iload hx hb dX7_rests_129 (lv_at hl 1 rfl) ?_
              obtain ⟨x131, ex131, hf⟩ := obd hf
              refine tcallI (rest := [.int x121.1]) hx hb hts hown hE hz hI hml hl.1 (mX7_hasBy x121.2 c3 c2 v85 v79 _ _ ex131) (cwX7_hasBy hts ⟨Nat.le_of_ble_eq_true rfl, Nat.le_of_ble_eq_true rfl⟩) ⟨Nat.le_of_ble_eq_true rfl, Nat.le_of_ble_eq_true rfl⟩ rfl rfl (lv_room (Nat.le_of_ble_eq_true rfl)) dX7_rests_131 (fun H locs hI => ?_)
              refine lv_icmp_gt (tgt := 146) hx hb dX7_rests_134 (by decide) (fun hc => ?_) (fun hc => ?_)
              · replace hf := ipos hc hf
                obtain ⟨v146_10, ev146_10, hf⟩ := obd hf
                refine lv_iinc (v := v146_10) (lv' := [(5, .int v146_10), (7, .int v85), (6, .int v79), (0, .ref o), (1, .int c1), (2, .int c2), (3, .int c3), (4, .int w69.2.1)]) hx hb dX7_rests_146 hl (k := 7) rfl (iiE ev146_10 (by decide)) (by decide) rfl (fun ls hl => ?_)
                refine lv_goto (tgt := 69) hx hb dX7_rests_149 (by decide) ?_
                exact hk _ (Option.some.inj hf).symm H locs ls hI (lv_sub hl [3, 4, 5, 6, 7, 0] rfl)
              · replace hf := ineg hc hf
                refine lv_iload hx hb dX7_rests_137 (lv_at hl 6 rfl) ?_
                refine lv_iconst (v := (1 : Int32)) hx hb dX7_rests_139 (by decide) ?_
                refine lv_iload hx hb dX7_rests_140 (lv_at hl 7 rfl) ?_
                refine lv_ishl hx hb dX7_rests_142 ?_
                refine lv_ior hx hb dX7_rests_143 ?_
                obtain ⟨v144, ev144, hf⟩ := obd hf
                refine nmI ev144 ?_
                refine lv_istore (lv' := [(4, .int v144), (7, .int v85), (6, .int v79), (0, .ref o), (1, .int c1), (2, .int c2), (3, .int c3), (5, .int w69.2.2)]) hx hb dX7_rests_144 hl (by decide) rfl (fun ls hl => ?_)
                obtain ⟨v146_12, ev146_12, hf⟩ := obd hf
                refine lv_iinc (v := v146_12) (lv' := [(5, .int v146_12), (4, .int v144), (7, .int v85), (6, .int v79), (0, .ref o), (1, .int c1), (2, .int c2), (3, .int c3)]) hx hb dX7_rests_146 hl (k := 7) rfl (iiE ev146_12 (by decide)) (by decide) rfl (fun ls hl => ?_)
                refine lv_goto (tgt := 69) hx hb dX7_rests_149 (by decide) ?_
                exact hk _ (Option.some.inj hf).symm H locs ls hI (lv_sub hl [4, 5, 6, 7, 1, 0] rfl)
        refine loopO_W (Wat := fun w69 => ∀ (H : Heap) (locs : List Loc) (ls : Array Slot), IT D cI cZ o s H locs w69.1 → lv_has ls 8 [(0, .ref o), (1, .int a1), (2, .int a2), (3, .int a3), (4, .int w69.2.1), (5, .int w69.2.2)] → W p l e ({ frames := 695, cells := 0, slots := 0, locals := 20116 } : Room) s m args below meth c H locs 0 0 Q (F0 m 69 ls [])) (Wex := fun ex_ => ∀ (H : Heap) (locs : List Loc) (ls : Array Slot), IT D cI cZ o s H locs ex_.1 → lv_has ls 8 [(4, .int ex_.2)] → W p l e ({ frames := 695, cells := 0, slots := 0, locals := 20116 } : Room) s m args below meth c H locs 0 0 Q (F0 m 152 ls [])) (hs69 a1 a2 a3) FU _ e69 he69 ?_ H locs ls hI (lv_sub hl [2, 3, 4, 5, 1, 0] rfl)
        · skip
          intro H locs ls hI hl
          refine lv_iload hx hb dX7_rests_152 (lv_at hl 0 rfl) ?_
          have hf := Prod.mk.inj (Option.some.inj hf)
          rw [hf.1]
          exact hret H locs 154 ls (hf.2 ▸ hI) dX7_rests_154
      · replace hf := ineg hc hf
        refine lv_iconst (v := (-1 : Int32)) hx hb dX7_rests_61 (by decide) ?_
        have hf := Prod.mk.inj (Option.some.inj hf)
        rw [hf.1]
        exact hret H locs 62 ls (hf.2 ▸ hI) dX7_rests_62
    · replace hf := ineg hc hf
      refine lv_iconst (v := (0 : Int32)) hx hb dX7_rests_49 (by decide) ?_
      have hf := Prod.mk.inj (Option.some.inj hf)
      rw [hf.1]
      exact hret H locs 50 ls (hf.2 ▸ hI) dX7_rests_50
  have hJ25 : ∀ (τ : Mm) (H : Heap) (locs : List Loc) (ls : Array Slot), X7_rests_J25 τ a1 a2 a3 = some (r, τ') → IT D cI cZ o s H locs τ → lv_has ls 8 [(0, .ref o), (1, .int a1), (2, .int a2), (3, .int a3)] → W p l e ({ frames := 695, cells := 0, slots := 0, locals := 20116 } : Room) s m args below meth c H locs 0 0 Q (F0 m 25 ls [.ref o]) := by
    intro τ  H locs ls hf hI hl
    unfold X7_rests_J25 at hf
    refine lv_iconst (v := (1 : Int32)) hx hb dX7_rests_25 (by decide) ?_
    refine lv_goto (tgt := 39) hx hb dX7_rests_26 (by decide) ?_
    exact hJ39 τ (1 : Int32) H locs ls hf hI  (lv_sub hl [0, 1, 2, 3] rfl)
  refine lv_aload_n hx hb dX7_rests_0 rfl (lv_at hl 0 rfl) ?_
  refine lv_aload_n hx hb dX7_rests_1 rfl (lv_at hl 0 rfl) ?_
  refine lv_iload_n hx hb dX7_rests_2 rfl (lv_at hl 1 rfl) ?_
  obtain ⟨x3, ex3, hf⟩ := obd hf
  refine tcallI (rest := [.ref o]) hx hb hts hown hE hz hI hml hl.1 (mX7_isParty τ a1 _ ex3) (cwX7_isParty hts ⟨Nat.le_of_ble_eq_true rfl, Nat.le_of_ble_eq_true rfl⟩) ⟨Nat.le_of_ble_eq_true rfl, Nat.le_of_ble_eq_true rfl⟩ rfl rfl (lv_room (Nat.le_of_ble_eq_true rfl)) dX7_rests_3 (fun H locs hI => ?_)
  refine lv_if_eq (tgt := 25) hx hb dX7_rests_6 (by decide) (fun hc => ?_) (fun hc => ?_)
  · replace hf := ipos hc hf
    exact hJ25 τ H locs ls hf hI  (lv_sub hl [0, 1, 2, 3] rfl)
  · replace hf := ineg hc hf
    refine lv_aload_n hx hb dX7_rests_9 rfl (lv_at hl 0 rfl) ?_
    refine lv_iload_n hx hb dX7_rests_10 rfl (lv_at hl 2 rfl) ?_
    obtain ⟨x11, ex11, hf⟩ := obd hf
    refine tcallI (rest := [.ref o]) hx hb hts hown hE hz hI hml hl.1 (mX7_isParty τ a2 _ ex11) (cwX7_isParty hts ⟨Nat.le_of_ble_eq_true rfl, Nat.le_of_ble_eq_true rfl⟩) ⟨Nat.le_of_ble_eq_true rfl, Nat.le_of_ble_eq_true rfl⟩ rfl rfl (lv_room (Nat.le_of_ble_eq_true rfl)) dX7_rests_11 (fun H locs hI => ?_)
    refine lv_if_eq (tgt := 25) hx hb dX7_rests_14 (by decide) (fun hc => ?_) (fun hc => ?_)
    · replace hf := ipos hc hf
      exact hJ25 τ H locs ls hf hI  (lv_sub hl [0, 1, 2, 3] rfl)
    · replace hf := ineg hc hf
      refine lv_aload_n hx hb dX7_rests_17 rfl (lv_at hl 0 rfl) ?_
      refine lv_iload_n hx hb dX7_rests_18 rfl (lv_at hl 3 rfl) ?_
      obtain ⟨x19, ex19, hf⟩ := obd hf
      refine tcallI (rest := [.ref o]) hx hb hts hown hE hz hI hml hl.1 (mX7_isDeed τ a3 _ ex19) (cwX7_isDeed hts ⟨Nat.le_of_ble_eq_true rfl, Nat.le_of_ble_eq_true rfl⟩) ⟨Nat.le_of_ble_eq_true rfl, Nat.le_of_ble_eq_true rfl⟩ rfl rfl (lv_room (Nat.le_of_ble_eq_true rfl)) dX7_rests_19 (fun H locs hI => ?_)
      refine lv_if_ne (tgt := 29) hx hb dX7_rests_22 (by decide) (fun hc => ?_) (fun hc => ?_)
      · replace hf := ineg hc hf
        refine lv_iload_n hx hb dX7_rests_29 rfl (lv_at hl 1 rfl) ?_
        refine lv_iload_n hx hb dX7_rests_30 rfl (lv_at hl 2 rfl) ?_
        refine lv_icmp_ne (tgt := 38) hx hb dX7_rests_31 (by decide) (fun hc => ?_) (fun hc => ?_)
        · replace hf := ineg hc hf
          refine lv_iconst (v := (0 : Int32)) hx hb dX7_rests_38 (by decide) ?_
          exact hJ39 τ (0 : Int32) H locs ls hf hI  (lv_sub hl [0, 1, 2, 3] rfl)
        · replace hf := ipos hc hf
          refine lv_iconst (v := (2 : Int32)) hx hb dX7_rests_34 (by decide) ?_
          refine lv_goto (tgt := 39) hx hb dX7_rests_35 (by decide) ?_
          exact hJ39 τ (2 : Int32) H locs ls hf hI  (lv_sub hl [0, 1, 2, 3] rfl)
      · replace hf := ipos hc hf
        exact hJ25 τ H locs ls hf hI  (lv_sub hl [0, 1, 2, 3] rfl)


def X7_odds_L46 (τ : Mm) (c1 : Int32) (c2 : Int32) (w46 : Int64 × Int32) : Option ((Int64 × Int32) ⊕ (Int64)) :=
  if c1 ≤ w46.2 then
    some (.inr w46.1)
  else
    (some (w46.1 * (100 : Int64))).bind fun v58 =>
    (some (w46.2 + (1 : Int32))).bind fun v60 =>
    some (.inl (v58, v60))
def X7_odds_L96 (τ : Mm) (c1 : Int32) (c2 : Int32) (c3 : Int64) (c5 : Int64) (c7 : Int32) (w96 : Int64 × Int32) : Option ((Int64 × Int32) ⊕ (Int64)) :=
  if c1 ≤ w96.2 then
    some (.inr w96.1)
  else
    (X7_isOf c7 w96.2).bind fun x108 =>
    if x108 = (0 : Int32) then
      (some (w96.1 * (((100 : Int32) - (τ 0 8)).toInt64))).bind fun v137 =>
      (some (w96.2 + (1 : Int32))).bind fun v139 =>
      some (.inl (v137, v139))
    else
      (some (w96.1 * ((τ 0 8).toInt64))).bind fun v137_7 =>
      (some (w96.2 + (1 : Int32))).bind fun v139_8 =>
      some (.inl (v137_7, v139_8))
def X7_odds_J69_91 (τ : Mm) (c1 : Int32) (c2 : Int32) (c5 : Int64) (x3 : Int64) (x7 : Int32) (y0 : Int64) : Option ((Int64 × Int32) ⊕ (Int64)) :=
  (loopO (X7_odds_L96 τ c1 c2 x3 c5 x7) FU (y0, (0 : Int32))).bind fun e96 =>
  (some (x3 + e96)).bind fun v149 =>
  (some (x7 + (1 : Int32))).bind fun v150 =>
  some (.inl (v149, v150))
def X7_odds_L69 (τ : Mm) (c1 : Int32) (c2 : Int32) (c5 : Int64) (w69 : Int64 × Int32) : Option ((Int64 × Int32) ⊕ (Int64)) :=
  if ((1 : Int32) <<< (c1 &&& (31 : Int32))) ≤ w69.2 then
    some (.inr w69.1)
  else
    (X7_bits w69.2).bind fun x79 =>
    if c2 ≤ x79 then
      X7_odds_J69_91 τ c1 c2 c5 w69.1 w69.2 (1 : Int64)
    else
      X7_odds_J69_91 τ c1 c2 c5 w69.1 w69.2 (0 : Int64)
def X7_odds_J26 (τ : Mm) (a1 : Int32) (a2 : Int32) (y0 : Int32) : Option (Int32 × Mm) :=
  (some (mup τ 10 0 y0)).bind fun t26 =>
  if (t26 10 0) ≤ (0 : Int32) then
    (loopO (X7_odds_L46 t26 a1 a2) FU ((1 : Int64), (0 : Int32))).bind fun e46 =>
    (loopO (X7_odds_L69 t26 a1 a2 e46) FU ((0 : Int64), (0 : Int32))).bind fun e69 =>
    (dnzL e46).bind fun _ =>
    some (((((10000 : Int64) * e69) / e46).toInt32), t26)
  else
    some ((0 : Int32), t26)
def X7_odds_J21 (τ : Mm) (a1 : Int32) (a2 : Int32) : Option (Int32 × Mm) :=
  X7_odds_J26 τ a1 a2 (1 : Int32)
def X7_odds (τ : Mm) (a1 : Int32) (a2 : Int32) : Option (Int32 × Mm) :=
  (X7_isIn a1 (0 : Int32) (6 : Int32)).bind fun x5 =>
  if x5 = (0 : Int32) then
    X7_odds_J21 τ a1 a2
  else
    (X7_isIn a2 (0 : Int32) (6 : Int32)).bind fun x15 =>
    if x15 = (0 : Int32) then
      X7_odds_J21 τ a1 a2
    else
      X7_odds_J26 τ a1 a2 (0 : Int32)
set_option maxHeartbeats 4000000 in
theorem mX7_odds (τ : Mm) (a1 : Int32) (a2 : Int32) (r : Int32) (τ' : Mm) (hf : X7_odds τ a1 a2 = some (r, τ')) : TMi yX7_odds cX7_odds 11 (some .int) 2 62 (fun aK => [.int a1, .int a2]) r τ τ' := by
  refine TMi.of (by decide) rfl (fun _ _ => Nat.le_of_ble_eq_true rfl) ?_
  intro p l e s m args below meth c D cI cZ o z aK aV Q ls hz hx hb hml hown hts hE hret hI hl
  obtain ⟨H, eH⟩ : ∃ H, H = s.heap := ⟨_, rfl⟩
  obtain ⟨locs, eL⟩ : ∃ L : List Loc, L = [] := ⟨_, rfl⟩
  rw [← eH, ← eL] at hI ⊢
  have hl : lv_has ls 11 [(0, .ref o), (1, .int a1), (2, .int a2)] := hl
  unfold X7_odds at hf
  have hJ26 : ∀ (τ : Mm) (y0 : Int32) (H : Heap) (locs : List Loc) (ls : Array Slot), X7_odds_J26 τ a1 a2 y0 = some (r, τ') → IT D cI cZ o s H locs τ → lv_has ls 11 [(0, .ref o), (1, .int a1), (2, .int a2)] → W p l e ({ frames := 2, cells := 0, slots := 0, locals := 62 } : Room) s m args below meth c H locs 0 0 Q (F0 m 26 ls [.int y0, .ref o]) := by
    intro τ y0 H locs ls hf hI hl
    unfold X7_odds_J26 at hf
    obtain ⟨t26, et26, hf⟩ := obd hf
    refine tput hx hb hts hown hE hI 0 (by decide) q2100 rfl (tyX7_ok 0 (by decide)) rfl rfl rfl et26 dX7_odds_26 (fun H locs hI => ?_)
    refine lv_aload_n hx hb dX7_odds_29 rfl (lv_at hl 0 rfl) ?_
    refine tget hx hb hts hown hE hI 0 (by decide) q2100 rfl dX7_odds_30 ?_
    refine lv_if_le (tgt := 38) hx hb dX7_odds_33 (by decide) (fun hc => ?_) (fun hc => ?_)
    · replace hf := ipos hc hf
      refine lv_lconst (v := (0 : Int64)) hx hb dX7_odds_38 (by decide) ?_
      refine lv_lstore_n (lv' := [(3, .long (0 : Int64)), (0, .ref o), (1, .int a1), (2, .int a2)]) hx hb dX7_odds_39 rfl hl (by decide) rfl (fun ls hl => ?_)
      refine lv_lconst (v := (1 : Int64)) hx hb dX7_odds_40 (by decide) ?_
      refine lv_lstore (lv' := [(5, .long (1 : Int64)), (3, .long (0 : Int64)), (0, .ref o), (1, .int a1), (2, .int a2)]) hx hb dX7_odds_41 hl (by decide) rfl (fun ls hl => ?_)
      refine lv_iconst (v := (0 : Int32)) hx hb dX7_odds_43 (by decide) ?_
      refine lv_istore (lv' := [(7, .int (0 : Int32)), (5, .long (1 : Int64)), (3, .long (0 : Int64)), (0, .ref o), (1, .int a1), (2, .int a2)]) hx hb dX7_odds_44 hl (by decide) rfl (fun ls hl => ?_)
      obtain ⟨e46, he46, hf⟩ := obd hf
      have hs46 : ∀ (τ : Mm) (c1 : Int32) (c2 : Int32), ∀ (w46 : Int64 × Int32) (o46 : (Int64 × Int32) ⊕ (Int64)), X7_odds_L46 τ c1 c2 w46 = some o46 → (∀ wx_, o46 = .inl wx_ → ∀ (H : Heap) (locs : List Loc) (ls : Array Slot), IT D cI cZ o s H locs τ → lv_has ls 11 [(0, .ref o), (1, .int c1), (2, .int c2), (3, .long (0 : Int64)), (5, .long wx_.1), (7, .int wx_.2)] → W p l e ({ frames := 2, cells := 0, slots := 0, locals := 62 } : Room) s m args below meth c H locs 0 0 Q (F0 m 46 ls [])) → (∀ ex_, o46 = .inr ex_ → ∀ (H : Heap) (locs : List Loc) (ls : Array Slot), IT D cI cZ o s H locs τ → lv_has ls 11 [(0, .ref o), (1, .int c1), (2, .int c2), (3, .long (0 : Int64)), (5, .long ex_)] → W p l e ({ frames := 2, cells := 0, slots := 0, locals := 62 } : Room) s m args below meth c H locs 0 0 Q (F0 m 66 ls [])) → ∀ (H : Heap) (locs : List Loc) (ls : Array Slot), IT D cI cZ o s H locs τ → lv_has ls 11 [(0, .ref o), (1, .int c1), (2, .int c2), (3, .long (0 : Int64)), (5, .long w46.1), (7, .int w46.2)] → W p l e ({ frames := 2, cells := 0, slots := 0, locals := 62 } : Room) s m args below meth c H locs 0 0 Q (F0 m 46 ls []) := by
        intro τ c1 c2 w46 o46 hf hk hq H locs ls hI hl
        unfold X7_odds_L46 at hf
        refine lv_iload hx hb dX7_odds_46 (lv_at hl 5 rfl) ?_
        refine lv_iload_n hx hb dX7_odds_48 rfl (lv_at hl 1 rfl) ?_
        refine lv_icmp_ge (tgt := 66) hx hb dX7_odds_49 (by decide) (fun hc => ?_) (fun hc => ?_)
        · replace hf := ipos hc hf
          exact hq _ (Option.some.inj hf).symm H locs ls hI (lv_sub hl [0, 1, 2, 3, 4] rfl)
        · replace hf := ineg hc hf
          refine lv_lload hx hb dX7_odds_52 (lv_at hl 4 rfl) ?_
          refine lv_ldc2 hx hb hown (hts _ q2668) dX7_odds_54 ?_
          refine lv_lmul hx hb dX7_odds_57 ?_
          obtain ⟨v58, ev58, hf⟩ := obd hf
          refine nmL ev58 ?_
          refine lv_lstore (lv' := [(5, .long v58), (0, .ref o), (1, .int c1), (2, .int c2), (3, .long (0 : Int64)), (7, .int w46.2)]) hx hb dX7_odds_58 hl (by decide) rfl (fun ls hl => ?_)
          obtain ⟨v60, ev60, hf⟩ := obd hf
          refine lv_iinc (v := v60) (lv' := [(7, .int v60), (5, .long v58), (0, .ref o), (1, .int c1), (2, .int c2), (3, .long (0 : Int64))]) hx hb dX7_odds_60 hl (k := 5) rfl (iiE ev60 (by decide)) (by decide) rfl (fun ls hl => ?_)
          refine lv_goto (tgt := 46) hx hb dX7_odds_63 (by decide) ?_
          exact hk _ (Option.some.inj hf).symm H locs ls hI (lv_sub hl [2, 3, 4, 5, 1, 0] rfl)
      refine loopO_W (Wat := fun w46 => ∀ (H : Heap) (locs : List Loc) (ls : Array Slot), IT D cI cZ o s H locs t26 → lv_has ls 11 [(0, .ref o), (1, .int a1), (2, .int a2), (3, .long (0 : Int64)), (5, .long w46.1), (7, .int w46.2)] → W p l e ({ frames := 2, cells := 0, slots := 0, locals := 62 } : Room) s m args below meth c H locs 0 0 Q (F0 m 46 ls [])) (Wex := fun ex_ => ∀ (H : Heap) (locs : List Loc) (ls : Array Slot), IT D cI cZ o s H locs t26 → lv_has ls 11 [(0, .ref o), (1, .int a1), (2, .int a2), (3, .long (0 : Int64)), (5, .long ex_)] → W p l e ({ frames := 2, cells := 0, slots := 0, locals := 62 } : Room) s m args below meth c H locs 0 0 Q (F0 m 66 ls [])) (hs46 t26 a1 a2) FU _ e46 he46 ?_ H locs ls hI (lv_sub hl [3, 4, 5, 2, 1, 0] rfl)
      · skip
        intro H locs ls hI hl
        refine lv_iconst (v := (0 : Int32)) hx hb dX7_odds_66 (by decide) ?_
        refine lv_istore (lv' := [(7, .int (0 : Int32)), (0, .ref o), (1, .int a1), (2, .int a2), (3, .long (0 : Int64)), (5, .long e46)]) hx hb dX7_odds_67 hl (by decide) rfl (fun ls hl => ?_)
        obtain ⟨e69, he69, hf⟩ := obd hf
        have hs69 : ∀ (τ : Mm) (c1 : Int32) (c2 : Int32) (c5 : Int64), ∀ (w69 : Int64 × Int32) (o69 : (Int64 × Int32) ⊕ (Int64)), X7_odds_L69 τ c1 c2 c5 w69 = some o69 → (∀ wx_, o69 = .inl wx_ → ∀ (H : Heap) (locs : List Loc) (ls : Array Slot), IT D cI cZ o s H locs τ → lv_has ls 11 [(0, .ref o), (1, .int c1), (2, .int c2), (3, .long wx_.1), (5, .long c5), (7, .int wx_.2)] → W p l e ({ frames := 2, cells := 0, slots := 0, locals := 62 } : Room) s m args below meth c H locs 0 0 Q (F0 m 69 ls [])) → (∀ ex_, o69 = .inr ex_ → ∀ (H : Heap) (locs : List Loc) (ls : Array Slot), IT D cI cZ o s H locs τ → lv_has ls 11 [(3, .long ex_), (5, .long c5)] → W p l e ({ frames := 2, cells := 0, slots := 0, locals := 62 } : Room) s m args below meth c H locs 0 0 Q (F0 m 156 ls [])) → ∀ (H : Heap) (locs : List Loc) (ls : Array Slot), IT D cI cZ o s H locs τ → lv_has ls 11 [(0, .ref o), (1, .int c1), (2, .int c2), (3, .long w69.1), (5, .long c5), (7, .int w69.2)] → W p l e ({ frames := 2, cells := 0, slots := 0, locals := 62 } : Room) s m args below meth c H locs 0 0 Q (F0 m 69 ls []) := by
          intro τ c1 c2 c5 w69 o69 hf hk hq H locs ls hI hl
          unfold X7_odds_L69 at hf
          have hJ91 : ∀ (x3 : Int64) (x7 : Int32) (y0 : Int64) (H : Heap) (locs : List Loc) (ls : Array Slot), X7_odds_J69_91 τ c1 c2 c5 x3 x7 y0 = some o69 → IT D cI cZ o s H locs τ → lv_has ls 11 [(0, .ref o), (1, .int c1), (2, .int c2), (3, .long x3), (5, .long c5), (7, .int x7)] → W p l e ({ frames := 2, cells := 0, slots := 0, locals := 62 } : Room) s m args below meth c H locs 0 0 Q (F0 m 91 ls [.long y0]) := by
            intro x3 x7 y0 H locs ls hf hI hl
            unfold X7_odds_J69_91 at hf
            refine lv_lstore (lv' := [(8, .long y0), (0, .ref o), (1, .int c1), (2, .int c2), (3, .long x3), (5, .long c5), (7, .int x7)]) hx hb dX7_odds_91 hl (by decide) rfl (fun ls hl => ?_)
            refine lv_iconst (v := (0 : Int32)) hx hb dX7_odds_93 (by decide) ?_
            refine lv_istore (lv' := [(10, .int (0 : Int32)), (8, .long y0), (0, .ref o), (1, .int c1), (2, .int c2), (3, .long x3), (5, .long c5), (7, .int x7)]) hx hb dX7_odds_94 hl (by decide) rfl (fun ls hl => ?_)
            obtain ⟨e96, he96, hf⟩ := obd hf
            have hs96 : ∀ (τ : Mm) (c1 : Int32) (c2 : Int32) (c3 : Int64) (c5 : Int64) (c7 : Int32), ∀ (w96 : Int64 × Int32) (o96 : (Int64 × Int32) ⊕ (Int64)), X7_odds_L96 τ c1 c2 c3 c5 c7 w96 = some o96 → (∀ wx_, o96 = .inl wx_ → ∀ (H : Heap) (locs : List Loc) (ls : Array Slot), IT D cI cZ o s H locs τ → lv_has ls 11 [(0, .ref o), (1, .int c1), (2, .int c2), (3, .long c3), (5, .long c5), (7, .int c7), (8, .long wx_.1), (10, .int wx_.2)] → W p l e ({ frames := 2, cells := 0, slots := 0, locals := 62 } : Room) s m args below meth c H locs 0 0 Q (F0 m 96 ls [])) → (∀ ex_, o96 = .inr ex_ → ∀ (H : Heap) (locs : List Loc) (ls : Array Slot), IT D cI cZ o s H locs τ → lv_has ls 11 [(0, .ref o), (1, .int c1), (2, .int c2), (3, .long c3), (5, .long c5), (7, .int c7), (8, .long ex_)] → W p l e ({ frames := 2, cells := 0, slots := 0, locals := 62 } : Room) s m args below meth c H locs 0 0 Q (F0 m 145 ls [])) → ∀ (H : Heap) (locs : List Loc) (ls : Array Slot), IT D cI cZ o s H locs τ → lv_has ls 11 [(0, .ref o), (1, .int c1), (2, .int c2), (3, .long c3), (5, .long c5), (7, .int c7), (8, .long w96.1), (10, .int w96.2)] → W p l e ({ frames := 2, cells := 0, slots := 0, locals := 62 } : Room) s m args below meth c H locs 0 0 Q (F0 m 96 ls []) := by
              intro τ c1 c2 c3 c5 c7 w96 o96 hf hk hq H locs ls hI hl
              unfold X7_odds_L96 at hf
              refine lv_iload hx hb dX7_odds_96 (lv_at hl 7 rfl) ?_
              refine lv_iload_n hx hb dX7_odds_98 rfl (lv_at hl 1 rfl) ?_
              refine lv_icmp_ge (tgt := 145) hx hb dX7_odds_99 (by decide) (fun hc => ?_) (fun hc => ?_)
              · replace hf := ipos hc hf
                exact hq _ (Option.some.inj hf).symm H locs ls hI (lv_sub hl [0, 1, 2, 3, 4, 5, 6] rfl)
              · replace hf := ineg hc hf
                refine lv_lload hx hb dX7_odds_102 (lv_at hl 6 rfl) ?_
                refine lv_iload hx hb dX7_odds_104 (lv_at hl 5 rfl) ?_
                refine lv_iload hx hb dX7_odds_106 (lv_at hl 7 rfl) ?_
                obtain ⟨x108, ex108, hf⟩ := obd hf
                refine tcallS (rest := [.long w96.1]) hx hb hts hown hml hl.1 (mX7_isOf c7 w96.2 _ ex108) (cwX7_isOf hts ⟨Nat.le_of_ble_eq_true rfl, Nat.le_of_ble_eq_true rfl⟩) ⟨Nat.le_of_ble_eq_true rfl, Nat.le_of_ble_eq_true rfl⟩ rfl rfl (lv_room (Nat.le_of_ble_eq_true rfl)) dX7_odds_108 ?_
                refine lv_if_eq (tgt := 125) hx hb dX7_odds_111 (by decide) (fun hc => ?_) (fun hc => ?_)
                · replace hf := ipos hc hf
                  refine lv_bipush (v := (100 : Int32)) hx hb dX7_odds_125 (by decide) ?_
                  refine lv_aload_n hx hb dX7_odds_127 rfl (lv_at hl 0 rfl) ?_
                  refine tget hx hb hts hown hE hI 1 (by decide) q2101 rfl dX7_odds_128 ?_
                  refine lv_bipush (v := (8 : Int32)) hx hb dX7_odds_131 (by decide) ?_
                  refine taldc hx hb hE hI 1 781 8 rfl (by decide) (by decide) dX7_odds_133 ?_
                  refine lv_isub hx hb dX7_odds_134 ?_
                  refine lv_i2l (v := ((100 : Int32) - (τ 0 8)).toInt64) hx hb dX7_odds_135 rfl ?_
                  refine lv_lmul hx hb dX7_odds_136 ?_
                  obtain ⟨v137, ev137, hf⟩ := obd hf
                  refine nmL ev137 ?_
                  refine lv_lstore (lv' := [(8, .long v137), (0, .ref o), (1, .int c1), (2, .int c2), (3, .long c3), (5, .long c5), (7, .int c7), (10, .int w96.2)]) hx hb dX7_odds_137 hl (by decide) rfl (fun ls hl => ?_)
                  obtain ⟨v139, ev139, hf⟩ := obd hf
                  refine lv_iinc (v := v139) (lv' := [(10, .int v139), (8, .long v137), (0, .ref o), (1, .int c1), (2, .int c2), (3, .long c3), (5, .long c5), (7, .int c7)]) hx hb dX7_odds_139 hl (k := 7) rfl (iiE ev139 (by decide)) (by decide) rfl (fun ls hl => ?_)
                  refine lv_goto (tgt := 96) hx hb dX7_odds_142 (by decide) ?_
                  exact hk _ (Option.some.inj hf).symm H locs ls hI (lv_sub hl [2, 3, 4, 5, 6, 7, 1, 0] rfl)
                · replace hf := ineg hc hf
                  refine lv_aload_n hx hb dX7_odds_114 rfl (lv_at hl 0 rfl) ?_
                  refine tget hx hb hts hown hE hI 1 (by decide) q2101 rfl dX7_odds_115 ?_
                  refine lv_bipush (v := (8 : Int32)) hx hb dX7_odds_118 (by decide) ?_
                  refine taldc hx hb hE hI 1 781 8 rfl (by decide) (by decide) dX7_odds_120 ?_
                  refine lv_i2l (v := (τ 0 8).toInt64) hx hb dX7_odds_121 rfl ?_
                  refine lv_goto (tgt := 136) hx hb dX7_odds_122 (by decide) ?_
                  refine lv_lmul hx hb dX7_odds_136 ?_
                  obtain ⟨v137_7, ev137_7, hf⟩ := obd hf
                  refine nmL ev137_7 ?_
                  refine lv_lstore (lv' := [(8, .long v137_7), (0, .ref o), (1, .int c1), (2, .int c2), (3, .long c3), (5, .long c5), (7, .int c7), (10, .int w96.2)]) hx hb dX7_odds_137 hl (by decide) rfl (fun ls hl => ?_)
                  obtain ⟨v139_8, ev139_8, hf⟩ := obd hf
                  refine lv_iinc (v := v139_8) (lv' := [(10, .int v139_8), (8, .long v137_7), (0, .ref o), (1, .int c1), (2, .int c2), (3, .long c3), (5, .long c5), (7, .int c7)]) hx hb dX7_odds_139 hl (k := 7) rfl (iiE ev139_8 (by decide)) (by decide) rfl (fun ls hl => ?_)
                  refine lv_goto (tgt := 96) hx hb dX7_odds_142 (by decide) ?_
                  exact hk _ (Option.some.inj hf).symm H locs ls hI (lv_sub hl [2, 3, 4, 5, 6, 7, 1, 0] rfl)
            refine loopO_W (Wat := fun w96 => ∀ (H : Heap) (locs : List Loc) (ls : Array Slot), IT D cI cZ o s H locs τ → lv_has ls 11 [(0, .ref o), (1, .int c1), (2, .int c2), (3, .long x3), (5, .long c5), (7, .int x7), (8, .long w96.1), (10, .int w96.2)] → W p l e ({ frames := 2, cells := 0, slots := 0, locals := 62 } : Room) s m args below meth c H locs 0 0 Q (F0 m 96 ls [])) (Wex := fun ex_ => ∀ (H : Heap) (locs : List Loc) (ls : Array Slot), IT D cI cZ o s H locs τ → lv_has ls 11 [(0, .ref o), (1, .int c1), (2, .int c2), (3, .long x3), (5, .long c5), (7, .int x7), (8, .long ex_)] → W p l e ({ frames := 2, cells := 0, slots := 0, locals := 62 } : Room) s m args below meth c H locs 0 0 Q (F0 m 145 ls [])) (hs96 τ c1 c2 x3 c5 x7) FU _ e96 he96 ?_ H locs ls hI (lv_sub hl [2, 3, 4, 5, 6, 7, 1, 0] rfl)
            · skip
              intro H locs ls hI hl
              refine lv_lload_n hx hb dX7_odds_145 rfl (lv_at hl 3 rfl) ?_
              refine lv_lload hx hb dX7_odds_146 (lv_at hl 6 rfl) ?_
              refine lv_ladd hx hb dX7_odds_148 ?_
              obtain ⟨v149, ev149, hf⟩ := obd hf
              refine nmL ev149 ?_
              refine lv_lstore_n (lv' := [(3, .long v149), (0, .ref o), (1, .int c1), (2, .int c2), (5, .long c5), (7, .int x7), (8, .long e96)]) hx hb dX7_odds_149 rfl hl (by decide) rfl (fun ls hl => ?_)
              obtain ⟨v150, ev150, hf⟩ := obd hf
              refine lv_iinc (v := v150) (lv' := [(7, .int v150), (3, .long v149), (0, .ref o), (1, .int c1), (2, .int c2), (5, .long c5), (8, .long e96)]) hx hb dX7_odds_150 hl (k := 5) rfl (iiE ev150 (by decide)) (by decide) rfl (fun ls hl => ?_)
              refine lv_goto (tgt := 69) hx hb dX7_odds_153 (by decide) ?_
              exact hk _ (Option.some.inj hf).symm H locs ls hI (lv_sub hl [2, 3, 4, 1, 5, 0] rfl)
          refine lv_iload hx hb dX7_odds_69 (lv_at hl 5 rfl) ?_
          refine lv_iconst (v := (1 : Int32)) hx hb dX7_odds_71 (by decide) ?_
          refine lv_iload_n hx hb dX7_odds_72 rfl (lv_at hl 1 rfl) ?_
          refine lv_ishl hx hb dX7_odds_73 ?_
          refine lv_icmp_ge (tgt := 156) hx hb dX7_odds_74 (by decide) (fun hc => ?_) (fun hc => ?_)
          · replace hf := ipos hc hf
            exact hq _ (Option.some.inj hf).symm H locs ls hI (lv_sub hl [3, 4] rfl)
          · replace hf := ineg hc hf
            refine lv_iload hx hb dX7_odds_77 (lv_at hl 5 rfl) ?_
            obtain ⟨x79, ex79, hf⟩ := obd hf
            refine tcallS (rest := []) hx hb hts hown hml hl.1 (mX7_bits w69.2 _ ex79) (cwX7_bits hts ⟨Nat.le_of_ble_eq_true rfl, Nat.le_of_ble_eq_true rfl⟩) ⟨Nat.le_of_ble_eq_true rfl, Nat.le_of_ble_eq_true rfl⟩ rfl rfl (lv_room (Nat.le_of_ble_eq_true rfl)) dX7_odds_79 ?_
            refine lv_iload_n hx hb dX7_odds_82 rfl (lv_at hl 2 rfl) ?_
            refine lv_icmp_ge (tgt := 90) hx hb dX7_odds_83 (by decide) (fun hc => ?_) (fun hc => ?_)
            · replace hf := ipos hc hf
              refine lv_lconst (v := (1 : Int64)) hx hb dX7_odds_90 (by decide) ?_
              exact hJ91 w69.1 w69.2 (1 : Int64) H locs ls hf hI  (lv_sub hl [0, 1, 2, 3, 4, 5] rfl)
            · replace hf := ineg hc hf
              refine lv_lconst (v := (0 : Int64)) hx hb dX7_odds_86 (by decide) ?_
              refine lv_goto (tgt := 91) hx hb dX7_odds_87 (by decide) ?_
              exact hJ91 w69.1 w69.2 (0 : Int64) H locs ls hf hI  (lv_sub hl [0, 1, 2, 3, 4, 5] rfl)
        refine loopO_W (Wat := fun w69 => ∀ (H : Heap) (locs : List Loc) (ls : Array Slot), IT D cI cZ o s H locs t26 → lv_has ls 11 [(0, .ref o), (1, .int a1), (2, .int a2), (3, .long w69.1), (5, .long e46), (7, .int w69.2)] → W p l e ({ frames := 2, cells := 0, slots := 0, locals := 62 } : Room) s m args below meth c H locs 0 0 Q (F0 m 69 ls [])) (Wex := fun ex_ => ∀ (H : Heap) (locs : List Loc) (ls : Array Slot), IT D cI cZ o s H locs t26 → lv_has ls 11 [(3, .long ex_), (5, .long e46)] → W p l e ({ frames := 2, cells := 0, slots := 0, locals := 62 } : Room) s m args below meth c H locs 0 0 Q (F0 m 156 ls [])) (hs69 t26 a1 a2 e46) FU _ e69 he69 ?_ H locs ls hI (lv_sub hl [1, 2, 3, 4, 5, 0] rfl)
        · skip
          intro H locs ls hI hl
          refine lv_ldc2 hx hb hown (hts _ q2669) dX7_odds_156 ?_
          refine lv_lload_n hx hb dX7_odds_159 rfl (lv_at hl 0 rfl) ?_
          refine lv_lmul hx hb dX7_odds_160 ?_
          refine lv_lload hx hb dX7_odds_161 (lv_at hl 1 rfl) ?_
          obtain ⟨_, en163, hf⟩ := obd hf
          refine lv_ldiv hx hb dX7_odds_163 (dnzL_e en163).2 ?_
          refine lv_l2i (v := (((10000 : Int64) * e69) / e46).toInt32) hx hb dX7_odds_164 rfl ?_
          have hf := Prod.mk.inj (Option.some.inj hf)
          rw [hf.1]
          exact hret H locs 165 ls (hf.2 ▸ hI) dX7_odds_165
    · replace hf := ineg hc hf
      refine lv_iconst (v := (0 : Int32)) hx hb dX7_odds_36 (by decide) ?_
      have hf := Prod.mk.inj (Option.some.inj hf)
      rw [hf.1]
      exact hret H locs 37 ls (hf.2 ▸ hI) dX7_odds_37
  have hJ21 : ∀ (τ : Mm) (H : Heap) (locs : List Loc) (ls : Array Slot), X7_odds_J21 τ a1 a2 = some (r, τ') → IT D cI cZ o s H locs τ → lv_has ls 11 [(0, .ref o), (1, .int a1), (2, .int a2)] → W p l e ({ frames := 2, cells := 0, slots := 0, locals := 62 } : Room) s m args below meth c H locs 0 0 Q (F0 m 21 ls [.ref o]) := by
    intro τ  H locs ls hf hI hl
    unfold X7_odds_J21 at hf
    refine lv_iconst (v := (1 : Int32)) hx hb dX7_odds_21 (by decide) ?_
    refine lv_goto (tgt := 26) hx hb dX7_odds_22 (by decide) ?_
    exact hJ26 τ (1 : Int32) H locs ls hf hI  (lv_sub hl [0, 1, 2] rfl)
  refine lv_aload_n hx hb dX7_odds_0 rfl (lv_at hl 0 rfl) ?_
  refine lv_iload_n hx hb dX7_odds_1 rfl (lv_at hl 1 rfl) ?_
  refine lv_iconst (v := (0 : Int32)) hx hb dX7_odds_2 (by decide) ?_
  refine lv_bipush (v := (6 : Int32)) hx hb dX7_odds_3 (by decide) ?_
  obtain ⟨x5, ex5, hf⟩ := obd hf
  refine tcallS (rest := [.ref o]) hx hb hts hown hml hl.1 (mX7_isIn a1 (0 : Int32) (6 : Int32) _ ex5) (cwX7_isIn hts ⟨Nat.le_of_ble_eq_true rfl, Nat.le_of_ble_eq_true rfl⟩) ⟨Nat.le_of_ble_eq_true rfl, Nat.le_of_ble_eq_true rfl⟩ rfl rfl (lv_room (Nat.le_of_ble_eq_true rfl)) dX7_odds_5 ?_
  refine lv_if_eq (tgt := 21) hx hb dX7_odds_8 (by decide) (fun hc => ?_) (fun hc => ?_)
  · replace hf := ipos hc hf
    exact hJ21 τ H locs ls hf hI  (lv_sub hl [0, 1, 2] rfl)
  · replace hf := ineg hc hf
    refine lv_iload_n hx hb dX7_odds_11 rfl (lv_at hl 2 rfl) ?_
    refine lv_iconst (v := (0 : Int32)) hx hb dX7_odds_12 (by decide) ?_
    refine lv_bipush (v := (6 : Int32)) hx hb dX7_odds_13 (by decide) ?_
    obtain ⟨x15, ex15, hf⟩ := obd hf
    refine tcallS (rest := [.ref o]) hx hb hts hown hml hl.1 (mX7_isIn a2 (0 : Int32) (6 : Int32) _ ex15) (cwX7_isIn hts ⟨Nat.le_of_ble_eq_true rfl, Nat.le_of_ble_eq_true rfl⟩) ⟨Nat.le_of_ble_eq_true rfl, Nat.le_of_ble_eq_true rfl⟩ rfl rfl (lv_room (Nat.le_of_ble_eq_true rfl)) dX7_odds_15 ?_
    refine lv_if_ne (tgt := 25) hx hb dX7_odds_18 (by decide) (fun hc => ?_) (fun hc => ?_)
    · replace hf := ineg hc hf
      refine lv_iconst (v := (0 : Int32)) hx hb dX7_odds_25 (by decide) ?_
      exact hJ26 τ (0 : Int32) H locs ls hf hI  (lv_sub hl [0, 1, 2] rfl)
    · replace hf := ipos hc hf
      exact hJ21 τ H locs ls hf hI  (lv_sub hl [0, 1, 2] rfl)


def X7_early_J14 (τ : Mm) (a1 : Int32) (y0 : Int32) : Option (Int32 × Mm) :=
  (some (mup τ 10 0 y0)).bind fun t14 =>
  if (0 : Int32) < (t14 10 0) then
    some ((0 : Int32), t14)
  else
    (X7_of t14 a1 (10 : Int32)).bind fun x28 =>
    if x28 = (0 : Int32) then
      (X7_whenOf t14 a1).bind fun x38 =>
      (some (mup x38.2 10 19 (1 : Int32))).bind fun t44 =>
      (X7_whenOf t44 a1).bind fun x49 =>
      (some (mup x49.2 10 19 (0 : Int32))).bind fun t55 =>
      if x38.1 = (-1 : Int32) then
        some ((0 : Int32), t55)
      else
        if x49.1 = (-1 : Int32) then
          some ((0 : Int32), t55)
        else
          some ((x38.1 - x49.1), t55)
    else
      some ((0 : Int32), t14)
def X7_early (τ : Mm) (a1 : Int32) : Option (Int32 × Mm) :=
  (X7_isDeed τ a1).bind fun x3 =>
  if x3 = (0 : Int32) then
    X7_early_J14 τ a1 (1 : Int32)
  else
    X7_early_J14 τ a1 (0 : Int32)
set_option maxHeartbeats 4000000 in
theorem mX7_early (τ : Mm) (a1 : Int32) (r : Int32) (τ' : Mm) (hf : X7_early τ a1 = some (r, τ')) : TMi yX7_early cX7_early 4 (some .int) 696 20142 (fun aK => [.int a1]) r τ τ' := by
  refine TMi.of (by decide) rfl (fun _ _ => Nat.le_of_ble_eq_true rfl) ?_
  intro p l e s m args below meth c D cI cZ o z aK aV Q ls hz hx hb hml hown hts hE hret hI hl
  obtain ⟨H, eH⟩ : ∃ H, H = s.heap := ⟨_, rfl⟩
  obtain ⟨locs, eL⟩ : ∃ L : List Loc, L = [] := ⟨_, rfl⟩
  rw [← eH, ← eL] at hI ⊢
  have hl : lv_has ls 4 [(0, .ref o), (1, .int a1)] := hl
  unfold X7_early at hf
  have hJ14 : ∀ (τ : Mm) (y0 : Int32) (H : Heap) (locs : List Loc) (ls : Array Slot), X7_early_J14 τ a1 y0 = some (r, τ') → IT D cI cZ o s H locs τ → lv_has ls 4 [(0, .ref o), (1, .int a1)] → W p l e ({ frames := 696, cells := 0, slots := 0, locals := 20142 } : Room) s m args below meth c H locs 0 0 Q (F0 m 14 ls [.int y0, .ref o]) := by
    intro τ y0 H locs ls hf hI hl
    unfold X7_early_J14 at hf
    obtain ⟨t14, et14, hf⟩ := obd hf
    refine tput hx hb hts hown hE hI 0 (by decide) q2100 rfl (tyX7_ok 0 (by decide)) rfl rfl rfl et14 dX7_early_14 (fun H locs hI => ?_)
    refine lv_aload_n hx hb dX7_early_17 rfl (lv_at hl 0 rfl) ?_
    refine tget hx hb hts hown hE hI 0 (by decide) q2100 rfl dX7_early_18 ?_
    refine lv_if_gt (tgt := 34) hx hb dX7_early_21 (by decide) (fun hc => ?_) (fun hc => ?_)
    · replace hf := ipos hc hf
      refine lv_iconst (v := (0 : Int32)) hx hb dX7_early_34 (by decide) ?_
      have hf := Prod.mk.inj (Option.some.inj hf)
      rw [hf.1]
      exact hret H locs 35 ls (hf.2 ▸ hI) dX7_early_35
    · replace hf := ineg hc hf
      refine lv_aload_n hx hb dX7_early_24 rfl (lv_at hl 0 rfl) ?_
      refine lv_iload_n hx hb dX7_early_25 rfl (lv_at hl 1 rfl) ?_
      refine lv_bipush (v := (10 : Int32)) hx hb dX7_early_26 (by decide) ?_
      obtain ⟨x28, ex28, hf⟩ := obd hf
      refine tcallI (rest := []) hx hb hts hown hE hz hI hml hl.1 (mX7_of t14 a1 (10 : Int32) _ ex28) (cwX7_of hts ⟨Nat.le_of_ble_eq_true rfl, Nat.le_of_ble_eq_true rfl⟩) ⟨Nat.le_of_ble_eq_true rfl, Nat.le_of_ble_eq_true rfl⟩ rfl rfl (lv_room (Nat.le_of_ble_eq_true rfl)) dX7_early_28 (fun H locs hI => ?_)
      refine lv_if_eq (tgt := 36) hx hb dX7_early_31 (by decide) (fun hc => ?_) (fun hc => ?_)
      · replace hf := ipos hc hf
        refine lv_aload_n hx hb dX7_early_36 rfl (lv_at hl 0 rfl) ?_
        refine lv_iload_n hx hb dX7_early_37 rfl (lv_at hl 1 rfl) ?_
        obtain ⟨x38, ex38, hf⟩ := obd hf
        refine tcallI (rest := []) hx hb hts hown hE hz hI hml hl.1 (mX7_whenOf t14 a1 _ _ ex38) (cwX7_whenOf hts ⟨Nat.le_of_ble_eq_true rfl, Nat.le_of_ble_eq_true rfl⟩) ⟨Nat.le_of_ble_eq_true rfl, Nat.le_of_ble_eq_true rfl⟩ rfl rfl (lv_room (Nat.le_of_ble_eq_true rfl)) dX7_early_38 (fun H locs hI => ?_)
        refine lv_istore_n (lv' := [(2, .int x38.1), (0, .ref o), (1, .int a1)]) hx hb dX7_early_41 rfl hl (by decide) rfl (fun ls hl => ?_)
        refine lv_aload_n hx hb dX7_early_42 rfl (lv_at hl 1 rfl) ?_
        refine lv_iconst (v := (1 : Int32)) hx hb dX7_early_43 (by decide) ?_
        obtain ⟨t44, et44, hf⟩ := obd hf
        refine tput hx hb hts hown hE hI 19 (by decide) q2119 rfl (tyX7_ok 19 (by decide)) rfl rfl rfl et44 dX7_early_44 (fun H locs hI => ?_)
        refine lv_aload_n hx hb dX7_early_47 rfl (lv_at hl 1 rfl) ?_
        refine lv_iload_n hx hb dX7_early_48 rfl (lv_at hl 2 rfl) ?_
        obtain ⟨x49, ex49, hf⟩ := obd hf
        refine tcallI (rest := []) hx hb hts hown hE hz hI hml hl.1 (mX7_whenOf t44 a1 _ _ ex49) (cwX7_whenOf hts ⟨Nat.le_of_ble_eq_true rfl, Nat.le_of_ble_eq_true rfl⟩) ⟨Nat.le_of_ble_eq_true rfl, Nat.le_of_ble_eq_true rfl⟩ rfl rfl (lv_room (Nat.le_of_ble_eq_true rfl)) dX7_early_49 (fun H locs hI => ?_)
        refine lv_istore_n (lv' := [(3, .int x49.1), (2, .int x38.1), (0, .ref o), (1, .int a1)]) hx hb dX7_early_52 rfl hl (by decide) rfl (fun ls hl => ?_)
        refine lv_aload_n hx hb dX7_early_53 rfl (lv_at hl 2 rfl) ?_
        refine lv_iconst (v := (0 : Int32)) hx hb dX7_early_54 (by decide) ?_
        obtain ⟨t55, et55, hf⟩ := obd hf
        refine tput hx hb hts hown hE hI 19 (by decide) q2119 rfl (tyX7_ok 19 (by decide)) rfl rfl rfl et55 dX7_early_55 (fun H locs hI => ?_)
        refine lv_iload_n hx hb dX7_early_58 rfl (lv_at hl 1 rfl) ?_
        refine lv_iconst (v := (-1 : Int32)) hx hb dX7_early_59 (by decide) ?_
        refine lv_icmp_eq (tgt := 68) hx hb dX7_early_60 (by decide) (fun hc => ?_) (fun hc => ?_)
        · replace hf := ipos hc hf
          refine lv_iconst (v := (0 : Int32)) hx hb dX7_early_68 (by decide) ?_
          refine lv_goto (tgt := 75) hx hb dX7_early_69 (by decide) ?_
          have hf := Prod.mk.inj (Option.some.inj hf)
          rw [hf.1]
          exact hret H locs 75 ls (hf.2 ▸ hI) dX7_early_75
        · replace hf := ineg hc hf
          refine lv_iload_n hx hb dX7_early_63 rfl (lv_at hl 0 rfl) ?_
          refine lv_iconst (v := (-1 : Int32)) hx hb dX7_early_64 (by decide) ?_
          refine lv_icmp_ne (tgt := 72) hx hb dX7_early_65 (by decide) (fun hc => ?_) (fun hc => ?_)
          · replace hf := ineg hc hf
            refine lv_iload_n hx hb dX7_early_72 rfl (lv_at hl 1 rfl) ?_
            refine lv_iload_n hx hb dX7_early_73 rfl (lv_at hl 0 rfl) ?_
            refine lv_isub hx hb dX7_early_74 ?_
            have hf := Prod.mk.inj (Option.some.inj hf)
            rw [hf.1]
            exact hret H locs 75 ls (hf.2 ▸ hI) dX7_early_75
          · replace hf := ipos hc hf
            refine lv_iconst (v := (0 : Int32)) hx hb dX7_early_68 (by decide) ?_
            refine lv_goto (tgt := 75) hx hb dX7_early_69 (by decide) ?_
            have hf := Prod.mk.inj (Option.some.inj hf)
            rw [hf.1]
            exact hret H locs 75 ls (hf.2 ▸ hI) dX7_early_75
      · replace hf := ineg hc hf
        refine lv_iconst (v := (0 : Int32)) hx hb dX7_early_34 (by decide) ?_
        have hf := Prod.mk.inj (Option.some.inj hf)
        rw [hf.1]
        exact hret H locs 35 ls (hf.2 ▸ hI) dX7_early_35
  refine lv_aload_n hx hb dX7_early_0 rfl (lv_at hl 0 rfl) ?_
  refine lv_aload_n hx hb dX7_early_1 rfl (lv_at hl 0 rfl) ?_
  refine lv_iload_n hx hb dX7_early_2 rfl (lv_at hl 1 rfl) ?_
  obtain ⟨x3, ex3, hf⟩ := obd hf
  refine tcallI (rest := [.ref o]) hx hb hts hown hE hz hI hml hl.1 (mX7_isDeed τ a1 _ ex3) (cwX7_isDeed hts ⟨Nat.le_of_ble_eq_true rfl, Nat.le_of_ble_eq_true rfl⟩) ⟨Nat.le_of_ble_eq_true rfl, Nat.le_of_ble_eq_true rfl⟩ rfl rfl (lv_room (Nat.le_of_ble_eq_true rfl)) dX7_early_3 (fun H locs hI => ?_)
  refine lv_if_ne (tgt := 13) hx hb dX7_early_6 (by decide) (fun hc => ?_) (fun hc => ?_)
  · replace hf := ineg hc hf
    refine lv_iconst (v := (0 : Int32)) hx hb dX7_early_13 (by decide) ?_
    exact hJ14 τ (0 : Int32) H locs ls hf hI  (lv_sub hl [0, 1] rfl)
  · replace hf := ipos hc hf
    refine lv_iconst (v := (1 : Int32)) hx hb dX7_early_9 (by decide) ?_
    refine lv_goto (tgt := 14) hx hb dX7_early_10 (by decide) ?_
    exact hJ14 τ (1 : Int32) H locs ls hf hI  (lv_sub hl [0, 1] rfl)


def X7_richest_L9 (τ : Mm) (w9 : Int32 × Int32) : Option ((Int32 × Int32) ⊕ (Int32)) :=
  if (τ 0 3) ≤ w9.2 then
    some (.inr w9.1)
  else
    if w9.1 = (-1 : Int32) then
      (some (w9.2 + (1 : Int32))).bind fun v39 =>
      some (.inl (w9.2, v39))
    else
      (X7_coins τ w9.2).bind fun x26 =>
      (X7_coins τ w9.1).bind fun x31 =>
      if x26 ≤ x31 then
        (some (w9.2 + (1 : Int32))).bind fun v39_5 =>
        some (.inl (w9.1, v39_5))
      else
        (some (w9.2 + (1 : Int32))).bind fun v39_6 =>
        some (.inl (w9.2, v39_6))
def X7_richest (τ : Mm) : Option (Int32 × Mm) :=
  (some (mup τ 10 0 (0 : Int32))).bind fun t2 =>
  (loopO (X7_richest_L9 t2) FU ((-1 : Int32), (0 : Int32))).bind fun e9 =>
  some (e9, t2)
set_option maxHeartbeats 4000000 in
theorem mX7_richest (τ : Mm) (r : Int32) (τ' : Mm) (hf : X7_richest τ = some (r, τ')) : TMi yX7_richest cX7_richest 3 (some .int) 2 61 (fun aK => []) r τ τ' := by
  refine TMi.of (by decide) rfl (fun _ _ => Nat.le_of_ble_eq_true rfl) ?_
  intro p l e s m args below meth c D cI cZ o z aK aV Q ls hz hx hb hml hown hts hE hret hI hl
  obtain ⟨H, eH⟩ : ∃ H, H = s.heap := ⟨_, rfl⟩
  obtain ⟨locs, eL⟩ : ∃ L : List Loc, L = [] := ⟨_, rfl⟩
  rw [← eH, ← eL] at hI ⊢
  have hl : lv_has ls 3 [(0, .ref o)] := hl
  unfold X7_richest at hf
  refine lv_aload_n hx hb dX7_richest_0 rfl (lv_at hl 0 rfl) ?_
  refine lv_iconst (v := (0 : Int32)) hx hb dX7_richest_1 (by decide) ?_
  obtain ⟨t2, et2, hf⟩ := obd hf
  refine tput hx hb hts hown hE hI 0 (by decide) q2100 rfl (tyX7_ok 0 (by decide)) rfl rfl rfl et2 dX7_richest_2 (fun H locs hI => ?_)
  refine lv_iconst (v := (-1 : Int32)) hx hb dX7_richest_5 (by decide) ?_
  refine lv_istore_n (lv' := [(1, .int (-1 : Int32)), (0, .ref o)]) hx hb dX7_richest_6 rfl hl (by decide) rfl (fun ls hl => ?_)
  refine lv_iconst (v := (0 : Int32)) hx hb dX7_richest_7 (by decide) ?_
  refine lv_istore_n (lv' := [(2, .int (0 : Int32)), (1, .int (-1 : Int32)), (0, .ref o)]) hx hb dX7_richest_8 rfl hl (by decide) rfl (fun ls hl => ?_)
  obtain ⟨e9, he9, hf⟩ := obd hf
  have hs9 : ∀ (τ : Mm) , ∀ (w9 : Int32 × Int32) (o9 : (Int32 × Int32) ⊕ (Int32)), X7_richest_L9 τ w9 = some o9 → (∀ wx_, o9 = .inl wx_ → ∀ (H : Heap) (locs : List Loc) (ls : Array Slot), IT D cI cZ o s H locs τ → lv_has ls 3 [(0, .ref o), (1, .int wx_.1), (2, .int wx_.2)] → W p l e ({ frames := 2, cells := 0, slots := 0, locals := 61 } : Room) s m args below meth c H locs 0 0 Q (F0 m 9 ls [])) → (∀ ex_, o9 = .inr ex_ → ∀ (H : Heap) (locs : List Loc) (ls : Array Slot), IT D cI cZ o s H locs τ → lv_has ls 3 [(1, .int ex_)] → W p l e ({ frames := 2, cells := 0, slots := 0, locals := 61 } : Room) s m args below meth c H locs 0 0 Q (F0 m 45 ls [])) → ∀ (H : Heap) (locs : List Loc) (ls : Array Slot), IT D cI cZ o s H locs τ → lv_has ls 3 [(0, .ref o), (1, .int w9.1), (2, .int w9.2)] → W p l e ({ frames := 2, cells := 0, slots := 0, locals := 61 } : Room) s m args below meth c H locs 0 0 Q (F0 m 9 ls []) := by
    intro τ  w9 o9 hf hk hq H locs ls hI hl
    unfold X7_richest_L9 at hf
    refine lv_iload_n hx hb dX7_richest_9 rfl (lv_at hl 2 rfl) ?_
    refine lv_aload_n hx hb dX7_richest_10 rfl (lv_at hl 0 rfl) ?_
    refine tget hx hb hts hown hE hI 1 (by decide) q2101 rfl dX7_richest_11 ?_
    refine lv_iconst (v := (3 : Int32)) hx hb dX7_richest_14 (by decide) ?_
    refine taldc hx hb hE hI 1 781 3 rfl (by decide) (by decide) dX7_richest_15 ?_
    refine lv_icmp_ge (tgt := 45) hx hb dX7_richest_16 (by decide) (fun hc => ?_) (fun hc => ?_)
    · replace hf := ipos hc hf
      exact hq _ (Option.some.inj hf).symm H locs ls hI (lv_sub hl [1] rfl)
    · replace hf := ineg hc hf
      refine lv_iload_n hx hb dX7_richest_19 rfl (lv_at hl 1 rfl) ?_
      refine lv_iconst (v := (-1 : Int32)) hx hb dX7_richest_20 (by decide) ?_
      refine lv_icmp_eq (tgt := 37) hx hb dX7_richest_21 (by decide) (fun hc => ?_) (fun hc => ?_)
      · replace hf := ipos hc hf
        refine lv_iload_n hx hb dX7_richest_37 rfl (lv_at hl 2 rfl) ?_
        refine lv_istore_n (lv' := [(1, .int w9.2), (0, .ref o), (2, .int w9.2)]) hx hb dX7_richest_38 rfl hl (by decide) rfl (fun ls hl => ?_)
        obtain ⟨v39, ev39, hf⟩ := obd hf
        refine lv_iinc (v := v39) (lv' := [(2, .int v39), (1, .int w9.2), (0, .ref o)]) hx hb dX7_richest_39 hl (k := 2) rfl (iiE ev39 (by decide)) (by decide) rfl (fun ls hl => ?_)
        refine lv_goto (tgt := 9) hx hb dX7_richest_42 (by decide) ?_
        exact hk _ (Option.some.inj hf).symm H locs ls hI (lv_sub hl [2, 1, 0] rfl)
      · replace hf := ineg hc hf
        refine lv_aload_n hx hb dX7_richest_24 rfl (lv_at hl 0 rfl) ?_
        refine lv_iload_n hx hb dX7_richest_25 rfl (lv_at hl 2 rfl) ?_
        obtain ⟨x26, ex26, hf⟩ := obd hf
        refine tcallI (rest := []) hx hb hts hown hE hz hI hml hl.1 (mX7_coins τ w9.2 _ ex26) (cwX7_coins hts ⟨Nat.le_of_ble_eq_true rfl, Nat.le_of_ble_eq_true rfl⟩) ⟨Nat.le_of_ble_eq_true rfl, Nat.le_of_ble_eq_true rfl⟩ rfl rfl (lv_room (Nat.le_of_ble_eq_true rfl)) dX7_richest_26 (fun H locs hI => ?_)
        refine lv_aload_n hx hb dX7_richest_29 rfl (lv_at hl 0 rfl) ?_
        refine lv_iload_n hx hb dX7_richest_30 rfl (lv_at hl 1 rfl) ?_
        obtain ⟨x31, ex31, hf⟩ := obd hf
        refine tcallI (rest := [.int x26]) hx hb hts hown hE hz hI hml hl.1 (mX7_coins τ w9.1 _ ex31) (cwX7_coins hts ⟨Nat.le_of_ble_eq_true rfl, Nat.le_of_ble_eq_true rfl⟩) ⟨Nat.le_of_ble_eq_true rfl, Nat.le_of_ble_eq_true rfl⟩ rfl rfl (lv_room (Nat.le_of_ble_eq_true rfl)) dX7_richest_31 (fun H locs hI => ?_)
        refine lv_icmp_le (tgt := 39) hx hb dX7_richest_34 (by decide) (fun hc => ?_) (fun hc => ?_)
        · replace hf := ipos hc hf
          obtain ⟨v39_5, ev39_5, hf⟩ := obd hf
          refine lv_iinc (v := v39_5) (lv' := [(2, .int v39_5), (0, .ref o), (1, .int w9.1)]) hx hb dX7_richest_39 hl (k := 2) rfl (iiE ev39_5 (by decide)) (by decide) rfl (fun ls hl => ?_)
          refine lv_goto (tgt := 9) hx hb dX7_richest_42 (by decide) ?_
          exact hk _ (Option.some.inj hf).symm H locs ls hI (lv_sub hl [1, 2, 0] rfl)
        · replace hf := ineg hc hf
          refine lv_iload_n hx hb dX7_richest_37 rfl (lv_at hl 2 rfl) ?_
          refine lv_istore_n (lv' := [(1, .int w9.2), (0, .ref o), (2, .int w9.2)]) hx hb dX7_richest_38 rfl hl (by decide) rfl (fun ls hl => ?_)
          obtain ⟨v39_6, ev39_6, hf⟩ := obd hf
          refine lv_iinc (v := v39_6) (lv' := [(2, .int v39_6), (1, .int w9.2), (0, .ref o)]) hx hb dX7_richest_39 hl (k := 2) rfl (iiE ev39_6 (by decide)) (by decide) rfl (fun ls hl => ?_)
          refine lv_goto (tgt := 9) hx hb dX7_richest_42 (by decide) ?_
          exact hk _ (Option.some.inj hf).symm H locs ls hI (lv_sub hl [2, 1, 0] rfl)
  refine loopO_W (Wat := fun w9 => ∀ (H : Heap) (locs : List Loc) (ls : Array Slot), IT D cI cZ o s H locs t2 → lv_has ls 3 [(0, .ref o), (1, .int w9.1), (2, .int w9.2)] → W p l e ({ frames := 2, cells := 0, slots := 0, locals := 61 } : Room) s m args below meth c H locs 0 0 Q (F0 m 9 ls [])) (Wex := fun ex_ => ∀ (H : Heap) (locs : List Loc) (ls : Array Slot), IT D cI cZ o s H locs t2 → lv_has ls 3 [(1, .int ex_)] → W p l e ({ frames := 2, cells := 0, slots := 0, locals := 61 } : Room) s m args below meth c H locs 0 0 Q (F0 m 45 ls [])) (hs9 t2) FU _ e9 he9 ?_ H locs ls hI (lv_sub hl [2, 1, 0] rfl)
  · skip
    intro H locs ls hI hl
    refine lv_iload_n hx hb dX7_richest_45 rfl (lv_at hl 0 rfl) ?_
    have hf := Prod.mk.inj (Option.some.inj hf)
    rw [hf.1]
    exact hret H locs 46 ls (hf.2 ▸ hI) dX7_richest_46


def X7_areAlike_L5 (τ : Mm) (c1 : Int32) (c2 : Int32) (w5 : Int32 × Int32) : Option ((Int32 × Int32) ⊕ (Int32)) :=
  if (3 : Int32) < w5.2 then
    some (.inr w5.1)
  else
    if w5.1 = (0 : Int32) then
      (some (w5.2 + (1 : Int32))).bind fun v38 =>
      some (.inl ((0 : Int32), v38))
    else
      (X7_of τ c1 w5.2).bind fun x19 =>
      (X7_of τ c2 w5.2).bind fun x26 =>
      if x19 = x26 then
        (some (w5.2 + (1 : Int32))).bind fun v38_5 =>
        some (.inl ((1 : Int32), v38_5))
      else
        (some (w5.2 + (1 : Int32))).bind fun v38_4 =>
        some (.inl ((0 : Int32), v38_4))
def X7_areAlike (τ : Mm) (a1 : Int32) (a2 : Int32) : Option (Int32) :=
  (loopO (X7_areAlike_L5 τ a1 a2) FU ((1 : Int32), (0 : Int32))).bind fun e5 =>
  (zb e5).bind fun _ =>
  some e5
set_option maxHeartbeats 4000000 in
theorem mX7_areAlike (τ : Mm) (a1 : Int32) (a2 : Int32) (r : Int32) (hf : X7_areAlike τ a1 a2 = some r) : TMi yX7_areAlike cX7_areAlike 5 (some .boolean) 2 62 (fun aK => [.int a1, .int a2]) r τ τ := by
  refine TMz.of (by decide) rfl (fun _ _ => Nat.le_of_ble_eq_true rfl) ?_
  intro p l e s m args below meth c D cI cZ o z aK aV Q ls hz hx hb hml hown hts hE hret hI hl
  obtain ⟨H, eH⟩ : ∃ H, H = s.heap := ⟨_, rfl⟩
  obtain ⟨locs, eL⟩ : ∃ L : List Loc, L = [] := ⟨_, rfl⟩
  rw [← eH, ← eL] at hI ⊢
  have hl : lv_has ls 5 [(0, .ref o), (1, .int a1), (2, .int a2)] := hl
  unfold X7_areAlike at hf
  refine lv_iconst (v := (1 : Int32)) hx hb dX7_areAlike_0 (by decide) ?_
  refine lv_istore_n (lv' := [(3, .int (1 : Int32)), (0, .ref o), (1, .int a1), (2, .int a2)]) hx hb dX7_areAlike_1 rfl hl (by decide) rfl (fun ls hl => ?_)
  refine lv_iconst (v := (0 : Int32)) hx hb dX7_areAlike_2 (by decide) ?_
  refine lv_istore (lv' := [(4, .int (0 : Int32)), (3, .int (1 : Int32)), (0, .ref o), (1, .int a1), (2, .int a2)]) hx hb dX7_areAlike_3 hl (by decide) rfl (fun ls hl => ?_)
  obtain ⟨e5, he5, hf⟩ := obd hf
  have hs5 : ∀ (c1 : Int32) (c2 : Int32), ∀ (w5 : Int32 × Int32) (o5 : (Int32 × Int32) ⊕ (Int32)), X7_areAlike_L5 τ c1 c2 w5 = some o5 → (∀ wx_, o5 = .inl wx_ → ∀ (H : Heap) (locs : List Loc) (ls : Array Slot), IT D cI cZ o s H locs τ → lv_has ls 5 [(0, .ref o), (1, .int c1), (2, .int c2), (3, .int wx_.1), (4, .int wx_.2)] → W p l e ({ frames := 2, cells := 0, slots := 0, locals := 62 } : Room) s m args below meth c H locs 0 0 Q (F0 m 5 ls [])) → (∀ ex_, o5 = .inr ex_ → ∀ (H : Heap) (locs : List Loc) (ls : Array Slot), IT D cI cZ o s H locs τ → lv_has ls 5 [(3, .int ex_)] → W p l e ({ frames := 2, cells := 0, slots := 0, locals := 62 } : Room) s m args below meth c H locs 0 0 Q (F0 m 44 ls [])) → ∀ (H : Heap) (locs : List Loc) (ls : Array Slot), IT D cI cZ o s H locs τ → lv_has ls 5 [(0, .ref o), (1, .int c1), (2, .int c2), (3, .int w5.1), (4, .int w5.2)] → W p l e ({ frames := 2, cells := 0, slots := 0, locals := 62 } : Room) s m args below meth c H locs 0 0 Q (F0 m 5 ls []) := by
    intro c1 c2 w5 o5 hf hk hq H locs ls hI hl
    unfold X7_areAlike_L5 at hf
    refine lv_iload hx hb dX7_areAlike_5 (lv_at hl 4 rfl) ?_
    refine lv_iconst (v := (3 : Int32)) hx hb dX7_areAlike_7 (by decide) ?_
    refine lv_icmp_gt (tgt := 44) hx hb dX7_areAlike_8 (by decide) (fun hc => ?_) (fun hc => ?_)
    · replace hf := ipos hc hf
      exact hq _ (Option.some.inj hf).symm H locs ls hI (lv_sub hl [3] rfl)
    · replace hf := ineg hc hf
      refine lv_iload_n hx hb dX7_areAlike_11 rfl (lv_at hl 3 rfl) ?_
      refine lv_if_eq (tgt := 36) hx hb dX7_areAlike_12 (by decide) (fun hc => ?_) (fun hc => ?_)
      · replace hf := ipos hc hf
        refine lv_iconst (v := (0 : Int32)) hx hb dX7_areAlike_36 (by decide) ?_
        refine lv_istore_n (lv' := [(3, .int (0 : Int32)), (0, .ref o), (1, .int c1), (2, .int c2), (4, .int w5.2)]) hx hb dX7_areAlike_37 rfl hl (by decide) rfl (fun ls hl => ?_)
        obtain ⟨v38, ev38, hf⟩ := obd hf
        refine lv_iinc (v := v38) (lv' := [(4, .int v38), (3, .int (0 : Int32)), (0, .ref o), (1, .int c1), (2, .int c2)]) hx hb dX7_areAlike_38 hl (k := 4) rfl (iiE ev38 (by decide)) (by decide) rfl (fun ls hl => ?_)
        refine lv_goto (tgt := 5) hx hb dX7_areAlike_41 (by decide) ?_
        exact hk _ (Option.some.inj hf).symm H locs ls hI (lv_sub hl [2, 3, 4, 1, 0] rfl)
      · replace hf := ineg hc hf
        refine lv_aload_n hx hb dX7_areAlike_15 rfl (lv_at hl 0 rfl) ?_
        refine lv_iload_n hx hb dX7_areAlike_16 rfl (lv_at hl 1 rfl) ?_
        refine lv_iload hx hb dX7_areAlike_17 (lv_at hl 4 rfl) ?_
        obtain ⟨x19, ex19, hf⟩ := obd hf
        refine tcallI (rest := []) hx hb hts hown hE hz hI hml hl.1 (mX7_of τ c1 w5.2 _ ex19) (cwX7_of hts ⟨Nat.le_of_ble_eq_true rfl, Nat.le_of_ble_eq_true rfl⟩) ⟨Nat.le_of_ble_eq_true rfl, Nat.le_of_ble_eq_true rfl⟩ rfl rfl (lv_room (Nat.le_of_ble_eq_true rfl)) dX7_areAlike_19 (fun H locs hI => ?_)
        refine lv_aload_n hx hb dX7_areAlike_22 rfl (lv_at hl 0 rfl) ?_
        refine lv_iload_n hx hb dX7_areAlike_23 rfl (lv_at hl 2 rfl) ?_
        refine lv_iload hx hb dX7_areAlike_24 (lv_at hl 4 rfl) ?_
        obtain ⟨x26, ex26, hf⟩ := obd hf
        refine tcallI (rest := [.int x19]) hx hb hts hown hE hz hI hml hl.1 (mX7_of τ c2 w5.2 _ ex26) (cwX7_of hts ⟨Nat.le_of_ble_eq_true rfl, Nat.le_of_ble_eq_true rfl⟩) ⟨Nat.le_of_ble_eq_true rfl, Nat.le_of_ble_eq_true rfl⟩ rfl rfl (lv_room (Nat.le_of_ble_eq_true rfl)) dX7_areAlike_26 (fun H locs hI => ?_)
        refine lv_icmp_ne (tgt := 36) hx hb dX7_areAlike_29 (by decide) (fun hc => ?_) (fun hc => ?_)
        · replace hf := ineg hc hf
          refine lv_iconst (v := (0 : Int32)) hx hb dX7_areAlike_36 (by decide) ?_
          refine lv_istore_n (lv' := [(3, .int (0 : Int32)), (0, .ref o), (1, .int c1), (2, .int c2), (4, .int w5.2)]) hx hb dX7_areAlike_37 rfl hl (by decide) rfl (fun ls hl => ?_)
          obtain ⟨v38_4, ev38_4, hf⟩ := obd hf
          refine lv_iinc (v := v38_4) (lv' := [(4, .int v38_4), (3, .int (0 : Int32)), (0, .ref o), (1, .int c1), (2, .int c2)]) hx hb dX7_areAlike_38 hl (k := 4) rfl (iiE ev38_4 (by decide)) (by decide) rfl (fun ls hl => ?_)
          refine lv_goto (tgt := 5) hx hb dX7_areAlike_41 (by decide) ?_
          exact hk _ (Option.some.inj hf).symm H locs ls hI (lv_sub hl [2, 3, 4, 1, 0] rfl)
        · replace hf := ipos hc hf
          refine lv_iconst (v := (1 : Int32)) hx hb dX7_areAlike_32 (by decide) ?_
          refine lv_goto (tgt := 37) hx hb dX7_areAlike_33 (by decide) ?_
          refine lv_istore_n (lv' := [(3, .int (1 : Int32)), (0, .ref o), (1, .int c1), (2, .int c2), (4, .int w5.2)]) hx hb dX7_areAlike_37 rfl hl (by decide) rfl (fun ls hl => ?_)
          obtain ⟨v38_5, ev38_5, hf⟩ := obd hf
          refine lv_iinc (v := v38_5) (lv' := [(4, .int v38_5), (3, .int (1 : Int32)), (0, .ref o), (1, .int c1), (2, .int c2)]) hx hb dX7_areAlike_38 hl (k := 4) rfl (iiE ev38_5 (by decide)) (by decide) rfl (fun ls hl => ?_)
          refine lv_goto (tgt := 5) hx hb dX7_areAlike_41 (by decide) ?_
          exact hk _ (Option.some.inj hf).symm H locs ls hI (lv_sub hl [2, 3, 4, 1, 0] rfl)
  refine loopO_W (Wat := fun w5 => ∀ (H : Heap) (locs : List Loc) (ls : Array Slot), IT D cI cZ o s H locs τ → lv_has ls 5 [(0, .ref o), (1, .int a1), (2, .int a2), (3, .int w5.1), (4, .int w5.2)] → W p l e ({ frames := 2, cells := 0, slots := 0, locals := 62 } : Room) s m args below meth c H locs 0 0 Q (F0 m 5 ls [])) (Wex := fun ex_ => ∀ (H : Heap) (locs : List Loc) (ls : Array Slot), IT D cI cZ o s H locs τ → lv_has ls 5 [(3, .int ex_)] → W p l e ({ frames := 2, cells := 0, slots := 0, locals := 62 } : Room) s m args below meth c H locs 0 0 Q (F0 m 44 ls [])) (hs5 a1 a2) FU _ e5 he5 ?_ H locs ls hI (lv_sub hl [2, 3, 4, 1, 0] rfl)
  · skip
    intro H locs ls hI hl
    refine lv_iload_n hx hb dX7_areAlike_44 rfl (lv_at hl 0 rfl) ?_
    obtain ⟨_, eb45, hf⟩ := obd hf
    have hf := Option.some.inj hf
    rw [hf]
    exact hret H locs 45 ls hI (hf ▸ (zb_e eb45).2) dX7_areAlike_45
theorem cwX7_areAlike {R : Room} {s : State} {args : Array Value} {fr lo : Nat} (hts : ∀ w ∈ lw_all, w.before args s = true) (hR : fr + 1 ≤ R.frames ∧ 8 + (5 + 11) + lo ≤ R.locals) : CallW R s args RX7 RX7 395 yX7_areAlike cX7_areAlike 5 (some .boolean) (ws_ yX7_areAlike cX7_areAlike 5 (some .boolean)) ({ frames := fr, cells := 0, slots := 0, locals := lo }) 0 0 2 :=
  cwV 2 hts (lw_V q2682 q2684 qs129 q143 q2685) rfl rfl rfl (by decide +kernel) hR

def X7_alike_L23 (τ : Mm) (c2 : Int32) (w23 : Int32 × Int32) : Option ((Int32 × Int32) ⊕ (Int32)) :=
  if (τ 0 5) ≤ w23.2 then
    some (.inr w23.1)
  else
    (X7_areAlike τ c2 w23.2).bind fun x37 =>
    if x37 = (0 : Int32) then
      (some (w23.1 + (0 : Int32))).bind fun v49 =>
      (some (w23.2 + (1 : Int32))).bind fun v50 =>
      some (.inl (v49, v50))
    else
      (some (w23.1 + (1 : Int32))).bind fun v49_6 =>
      (some (w23.2 + (1 : Int32))).bind fun v50_7 =>
      some (.inl (v49_6, v50_7))
def X7_alike_L9 (τ : Mm) (w9 : Int32 × Int32) : Option ((Int32 × Int32) ⊕ (Int32)) :=
  if (τ 0 5) ≤ w9.2 then
    some (.inr w9.1)
  else
    (some (w9.2 + (1 : Int32))).bind fun v22 =>
    (loopO (X7_alike_L23 τ w9.2) FU (w9.1, v22)).bind fun e23 =>
    (some (w9.2 + (1 : Int32))).bind fun v56 =>
    some (.inl (e23, v56))
def X7_alike (τ : Mm) : Option (Int32 × Mm) :=
  (some (mup τ 10 0 (0 : Int32))).bind fun t2 =>
  (loopO (X7_alike_L9 t2) FU ((0 : Int32), (0 : Int32))).bind fun e9 =>
  some (e9, t2)
set_option maxHeartbeats 4000000 in
theorem mX7_alike (τ : Mm) (r : Int32) (τ' : Mm) (hf : X7_alike τ = some (r, τ')) : TMi yX7_alike cX7_alike 4 (some .int) 3 86 (fun aK => []) r τ τ' := by
  refine TMi.of (by decide) rfl (fun _ _ => Nat.le_of_ble_eq_true rfl) ?_
  intro p l e s m args below meth c D cI cZ o z aK aV Q ls hz hx hb hml hown hts hE hret hI hl
  obtain ⟨H, eH⟩ : ∃ H, H = s.heap := ⟨_, rfl⟩
  obtain ⟨locs, eL⟩ : ∃ L : List Loc, L = [] := ⟨_, rfl⟩
  rw [← eH, ← eL] at hI ⊢
  have hl : lv_has ls 4 [(0, .ref o)] := hl
  unfold X7_alike at hf
  refine lv_aload_n hx hb dX7_alike_0 rfl (lv_at hl 0 rfl) ?_
  refine lv_iconst (v := (0 : Int32)) hx hb dX7_alike_1 (by decide) ?_
  obtain ⟨t2, et2, hf⟩ := obd hf
  refine tput hx hb hts hown hE hI 0 (by decide) q2100 rfl (tyX7_ok 0 (by decide)) rfl rfl rfl et2 dX7_alike_2 (fun H locs hI => ?_)
  refine lv_iconst (v := (0 : Int32)) hx hb dX7_alike_5 (by decide) ?_
  refine lv_istore_n (lv' := [(1, .int (0 : Int32)), (0, .ref o)]) hx hb dX7_alike_6 rfl hl (by decide) rfl (fun ls hl => ?_)
  refine lv_iconst (v := (0 : Int32)) hx hb dX7_alike_7 (by decide) ?_
  refine lv_istore_n (lv' := [(2, .int (0 : Int32)), (1, .int (0 : Int32)), (0, .ref o)]) hx hb dX7_alike_8 rfl hl (by decide) rfl (fun ls hl => ?_)
  obtain ⟨e9, he9, hf⟩ := obd hf
  have hs9 : ∀ (τ : Mm) , ∀ (w9 : Int32 × Int32) (o9 : (Int32 × Int32) ⊕ (Int32)), X7_alike_L9 τ w9 = some o9 → (∀ wx_, o9 = .inl wx_ → ∀ (H : Heap) (locs : List Loc) (ls : Array Slot), IT D cI cZ o s H locs τ → lv_has ls 4 [(0, .ref o), (1, .int wx_.1), (2, .int wx_.2)] → W p l e ({ frames := 3, cells := 0, slots := 0, locals := 86 } : Room) s m args below meth c H locs 0 0 Q (F0 m 9 ls [])) → (∀ ex_, o9 = .inr ex_ → ∀ (H : Heap) (locs : List Loc) (ls : Array Slot), IT D cI cZ o s H locs τ → lv_has ls 4 [(1, .int ex_)] → W p l e ({ frames := 3, cells := 0, slots := 0, locals := 86 } : Room) s m args below meth c H locs 0 0 Q (F0 m 62 ls [])) → ∀ (H : Heap) (locs : List Loc) (ls : Array Slot), IT D cI cZ o s H locs τ → lv_has ls 4 [(0, .ref o), (1, .int w9.1), (2, .int w9.2)] → W p l e ({ frames := 3, cells := 0, slots := 0, locals := 86 } : Room) s m args below meth c H locs 0 0 Q (F0 m 9 ls []) := by
    intro τ  w9 o9 hf hk hq H locs ls hI hl
    unfold X7_alike_L9 at hf
    refine lv_iload_n hx hb dX7_alike_9 rfl (lv_at hl 2 rfl) ?_
    refine lv_aload_n hx hb dX7_alike_10 rfl (lv_at hl 0 rfl) ?_
    refine tget hx hb hts hown hE hI 1 (by decide) q2101 rfl dX7_alike_11 ?_
    refine lv_iconst (v := (5 : Int32)) hx hb dX7_alike_14 (by decide) ?_
    refine taldc hx hb hE hI 1 781 5 rfl (by decide) (by decide) dX7_alike_15 ?_
    refine lv_icmp_ge (tgt := 62) hx hb dX7_alike_16 (by decide) (fun hc => ?_) (fun hc => ?_)
    · replace hf := ipos hc hf
      exact hq _ (Option.some.inj hf).symm H locs ls hI (lv_sub hl [1] rfl)
    · replace hf := ineg hc hf
      refine lv_iload_n hx hb dX7_alike_19 rfl (lv_at hl 2 rfl) ?_
      refine lv_iconst (v := (1 : Int32)) hx hb dX7_alike_20 (by decide) ?_
      refine lv_iadd hx hb dX7_alike_21 ?_
      obtain ⟨v22, ev22, hf⟩ := obd hf
      refine nmI ev22 ?_
      refine lv_istore_n (lv' := [(3, .int v22), (0, .ref o), (1, .int w9.1), (2, .int w9.2)]) hx hb dX7_alike_22 rfl hl (by decide) rfl (fun ls hl => ?_)
      obtain ⟨e23, he23, hf⟩ := obd hf
      have hs23 : ∀ (τ : Mm) (c2 : Int32), ∀ (w23 : Int32 × Int32) (o23 : (Int32 × Int32) ⊕ (Int32)), X7_alike_L23 τ c2 w23 = some o23 → (∀ wx_, o23 = .inl wx_ → ∀ (H : Heap) (locs : List Loc) (ls : Array Slot), IT D cI cZ o s H locs τ → lv_has ls 4 [(0, .ref o), (1, .int wx_.1), (2, .int c2), (3, .int wx_.2)] → W p l e ({ frames := 3, cells := 0, slots := 0, locals := 86 } : Room) s m args below meth c H locs 0 0 Q (F0 m 23 ls [])) → (∀ ex_, o23 = .inr ex_ → ∀ (H : Heap) (locs : List Loc) (ls : Array Slot), IT D cI cZ o s H locs τ → lv_has ls 4 [(0, .ref o), (1, .int ex_), (2, .int c2)] → W p l e ({ frames := 3, cells := 0, slots := 0, locals := 86 } : Room) s m args below meth c H locs 0 0 Q (F0 m 56 ls [])) → ∀ (H : Heap) (locs : List Loc) (ls : Array Slot), IT D cI cZ o s H locs τ → lv_has ls 4 [(0, .ref o), (1, .int w23.1), (2, .int c2), (3, .int w23.2)] → W p l e ({ frames := 3, cells := 0, slots := 0, locals := 86 } : Room) s m args below meth c H locs 0 0 Q (F0 m 23 ls []) := by
        intro τ c2 w23 o23 hf hk hq H locs ls hI hl
        unfold X7_alike_L23 at hf
        refine lv_iload_n hx hb dX7_alike_23 rfl (lv_at hl 3 rfl) ?_
        refine lv_aload_n hx hb dX7_alike_24 rfl (lv_at hl 0 rfl) ?_
        refine tget hx hb hts hown hE hI 1 (by decide) q2101 rfl dX7_alike_25 ?_
        refine lv_iconst (v := (5 : Int32)) hx hb dX7_alike_28 (by decide) ?_
        refine taldc hx hb hE hI 1 781 5 rfl (by decide) (by decide) dX7_alike_29 ?_
        refine lv_icmp_ge (tgt := 56) hx hb dX7_alike_30 (by decide) (fun hc => ?_) (fun hc => ?_)
        · replace hf := ipos hc hf
          exact hq _ (Option.some.inj hf).symm H locs ls hI (lv_sub hl [0, 1, 2] rfl)
        · replace hf := ineg hc hf
          refine lv_iload_n hx hb dX7_alike_33 rfl (lv_at hl 1 rfl) ?_
          refine lv_aload_n hx hb dX7_alike_34 rfl (lv_at hl 0 rfl) ?_
          refine lv_iload_n hx hb dX7_alike_35 rfl (lv_at hl 2 rfl) ?_
          refine lv_iload_n hx hb dX7_alike_36 rfl (lv_at hl 3 rfl) ?_
          obtain ⟨x37, ex37, hf⟩ := obd hf
          refine tcallI (rest := [.int w23.1]) hx hb hts hown hE hz hI hml hl.1 (mX7_areAlike τ c2 w23.2 _ ex37) (cwX7_areAlike hts ⟨Nat.le_of_ble_eq_true rfl, Nat.le_of_ble_eq_true rfl⟩) ⟨Nat.le_of_ble_eq_true rfl, Nat.le_of_ble_eq_true rfl⟩ rfl rfl (lv_room (Nat.le_of_ble_eq_true rfl)) dX7_alike_37 (fun H locs hI => ?_)
          refine lv_if_eq (tgt := 47) hx hb dX7_alike_40 (by decide) (fun hc => ?_) (fun hc => ?_)
          · replace hf := ipos hc hf
            refine lv_iconst (v := (0 : Int32)) hx hb dX7_alike_47 (by decide) ?_
            refine lv_iadd hx hb dX7_alike_48 ?_
            obtain ⟨v49, ev49, hf⟩ := obd hf
            refine nmI ev49 ?_
            refine lv_istore_n (lv' := [(1, .int v49), (0, .ref o), (2, .int c2), (3, .int w23.2)]) hx hb dX7_alike_49 rfl hl (by decide) rfl (fun ls hl => ?_)
            obtain ⟨v50, ev50, hf⟩ := obd hf
            refine lv_iinc (v := v50) (lv' := [(3, .int v50), (1, .int v49), (0, .ref o), (2, .int c2)]) hx hb dX7_alike_50 hl (k := 3) rfl (iiE ev50 (by decide)) (by decide) rfl (fun ls hl => ?_)
            refine lv_goto (tgt := 23) hx hb dX7_alike_53 (by decide) ?_
            exact hk _ (Option.some.inj hf).symm H locs ls hI (lv_sub hl [2, 1, 3, 0] rfl)
          · replace hf := ineg hc hf
            refine lv_iconst (v := (1 : Int32)) hx hb dX7_alike_43 (by decide) ?_
            refine lv_goto (tgt := 48) hx hb dX7_alike_44 (by decide) ?_
            refine lv_iadd hx hb dX7_alike_48 ?_
            obtain ⟨v49_6, ev49_6, hf⟩ := obd hf
            refine nmI ev49_6 ?_
            refine lv_istore_n (lv' := [(1, .int v49_6), (0, .ref o), (2, .int c2), (3, .int w23.2)]) hx hb dX7_alike_49 rfl hl (by decide) rfl (fun ls hl => ?_)
            obtain ⟨v50_7, ev50_7, hf⟩ := obd hf
            refine lv_iinc (v := v50_7) (lv' := [(3, .int v50_7), (1, .int v49_6), (0, .ref o), (2, .int c2)]) hx hb dX7_alike_50 hl (k := 3) rfl (iiE ev50_7 (by decide)) (by decide) rfl (fun ls hl => ?_)
            refine lv_goto (tgt := 23) hx hb dX7_alike_53 (by decide) ?_
            exact hk _ (Option.some.inj hf).symm H locs ls hI (lv_sub hl [2, 1, 3, 0] rfl)
      refine loopO_W (Wat := fun w23 => ∀ (H : Heap) (locs : List Loc) (ls : Array Slot), IT D cI cZ o s H locs τ → lv_has ls 4 [(0, .ref o), (1, .int w23.1), (2, .int w9.2), (3, .int w23.2)] → W p l e ({ frames := 3, cells := 0, slots := 0, locals := 86 } : Room) s m args below meth c H locs 0 0 Q (F0 m 23 ls [])) (Wex := fun ex_ => ∀ (H : Heap) (locs : List Loc) (ls : Array Slot), IT D cI cZ o s H locs τ → lv_has ls 4 [(0, .ref o), (1, .int ex_), (2, .int w9.2)] → W p l e ({ frames := 3, cells := 0, slots := 0, locals := 86 } : Room) s m args below meth c H locs 0 0 Q (F0 m 56 ls [])) (hs23 τ w9.2) FU _ e23 he23 ?_ H locs ls hI (lv_sub hl [1, 2, 3, 0] rfl)
      · skip
        intro H locs ls hI hl
        obtain ⟨v56, ev56, hf⟩ := obd hf
        refine lv_iinc (v := v56) (lv' := [(2, .int v56), (0, .ref o), (1, .int e23)]) hx hb dX7_alike_56 hl (k := 2) rfl (iiE ev56 (by decide)) (by decide) rfl (fun ls hl => ?_)
        refine lv_goto (tgt := 9) hx hb dX7_alike_59 (by decide) ?_
        exact hk _ (Option.some.inj hf).symm H locs ls hI (lv_sub hl [1, 2, 0] rfl)
  refine loopO_W (Wat := fun w9 => ∀ (H : Heap) (locs : List Loc) (ls : Array Slot), IT D cI cZ o s H locs t2 → lv_has ls 4 [(0, .ref o), (1, .int w9.1), (2, .int w9.2)] → W p l e ({ frames := 3, cells := 0, slots := 0, locals := 86 } : Room) s m args below meth c H locs 0 0 Q (F0 m 9 ls [])) (Wex := fun ex_ => ∀ (H : Heap) (locs : List Loc) (ls : Array Slot), IT D cI cZ o s H locs t2 → lv_has ls 4 [(1, .int ex_)] → W p l e ({ frames := 3, cells := 0, slots := 0, locals := 86 } : Room) s m args below meth c H locs 0 0 Q (F0 m 62 ls [])) (hs9 t2) FU _ e9 he9 ?_ H locs ls hI (lv_sub hl [2, 1, 0] rfl)
  · skip
    intro H locs ls hI hl
    refine lv_iload_n hx hb dX7_alike_62 rfl (lv_at hl 0 rfl) ?_
    have hf := Prod.mk.inj (Option.some.inj hf)
    rw [hf.1]
    exact hret H locs 63 ls (hf.2 ▸ hI) dX7_alike_63

