def X7_fortuneOf_L7 (τ : Mm) (c1 : Int32) (w7 : Int32 × Int32 × Int32) : Option ((Int32 × Int32 × Int32) ⊕ (Int32 × Int32)) :=
  if (256 : Int32) ≤ w7.2.2 then
    some (.inr (w7.1, w7.2.1))
  else
    (X7_inState τ (0 : Int32)).bind fun x19 =>
    if (w7.2.2 &&& (x19 ^^^ (-1 : Int32))) = (0 : Int32) then
      (X7_netOf τ c1 w7.2.2).bind fun x36 =>
      (some (w7.1 + x36)).bind fun v40 =>
      (some (w7.2.1 + (1 : Int32))).bind fun v41 =>
      (some (w7.2.2 + (1 : Int32))).bind fun v44 =>
      some (.inl (v40, v41, v44))
    else
      (some (w7.2.2 + (1 : Int32))).bind fun v44_6 =>
      some (.inl (w7.1, w7.2.1, v44_6))
def X7_fortuneOf (τ : Mm) (a1 : Int32) : Option (Int32) :=
  (loopO (X7_fortuneOf_L7 τ a1) FU ((0 : Int32), (0 : Int32), (0 : Int32))).bind fun e7 =>
  (dnz e7.2).bind fun _ =>
  some (e7.1 / e7.2)
set_option maxHeartbeats 4000000 in
theorem mX7_fortuneOf (τ : Mm) (a1 : Int32) (r : Int32) (hf : X7_fortuneOf τ a1 = some r) : TMi yX7_fortuneOf cX7_fortuneOf 5 (some .int) 4 110 (fun aK => [.int a1]) r τ τ := by
  refine TMi.of (by decide) rfl (fun _ _ => Nat.le_of_ble_eq_true rfl) ?_
  intro p l e s m args below meth c D cI cZ o z aK aV Q ls hz hx hb hml hown hts hE hret hI hl
  obtain ⟨H, eH⟩ : ∃ H, H = s.heap := ⟨_, rfl⟩
  obtain ⟨locs, eL⟩ : ∃ L : List Loc, L = [] := ⟨_, rfl⟩
  rw [← eH, ← eL] at hI ⊢
  have hl : lv_has ls 5 [(0, .ref o), (1, .int a1)] := hl
  unfold X7_fortuneOf at hf
  refine lv_iconst (v := (0 : Int32)) hx hb dX7_fortuneOf_0 (by decide) ?_
  refine lv_istore_n (lv' := [(2, .int (0 : Int32)), (0, .ref o), (1, .int a1)]) hx hb dX7_fortuneOf_1 rfl hl (by decide) rfl (fun ls hl => ?_)
  refine lv_iconst (v := (0 : Int32)) hx hb dX7_fortuneOf_2 (by decide) ?_
  refine lv_istore_n (lv' := [(3, .int (0 : Int32)), (2, .int (0 : Int32)), (0, .ref o), (1, .int a1)]) hx hb dX7_fortuneOf_3 rfl hl (by decide) rfl (fun ls hl => ?_)
  refine lv_iconst (v := (0 : Int32)) hx hb dX7_fortuneOf_4 (by decide) ?_
  refine lv_istore (lv' := [(4, .int (0 : Int32)), (3, .int (0 : Int32)), (2, .int (0 : Int32)), (0, .ref o), (1, .int a1)]) hx hb dX7_fortuneOf_5 hl (by decide) rfl (fun ls hl => ?_)
  obtain ⟨e7, he7, hf⟩ := obd hf
  have hs7 : ∀ (c1 : Int32), ∀ (w7 : Int32 × Int32 × Int32) (o7 : (Int32 × Int32 × Int32) ⊕ (Int32 × Int32)), X7_fortuneOf_L7 τ c1 w7 = some o7 → (∀ wx_, o7 = .inl wx_ → ∀ (H : Heap) (locs : List Loc) (ls : Array Slot), IT D cI cZ o s H locs τ → lv_has ls 5 [(0, .ref o), (1, .int c1), (2, .int wx_.1), (3, .int wx_.2.1), (4, .int wx_.2.2)] → W p l e ({ frames := 4, cells := 0, slots := 0, locals := 110 } : Room) s m args below meth c H locs 0 0 Q (F0 m 7 ls [])) → (∀ ex_, o7 = .inr ex_ → ∀ (H : Heap) (locs : List Loc) (ls : Array Slot), IT D cI cZ o s H locs τ → lv_has ls 5 [(2, .int ex_.1), (3, .int ex_.2)] → W p l e ({ frames := 4, cells := 0, slots := 0, locals := 110 } : Room) s m args below meth c H locs 0 0 Q (F0 m 50 ls [])) → ∀ (H : Heap) (locs : List Loc) (ls : Array Slot), IT D cI cZ o s H locs τ → lv_has ls 5 [(0, .ref o), (1, .int c1), (2, .int w7.1), (3, .int w7.2.1), (4, .int w7.2.2)] → W p l e ({ frames := 4, cells := 0, slots := 0, locals := 110 } : Room) s m args below meth c H locs 0 0 Q (F0 m 7 ls []) := by
    intro c1 w7 o7 hf hk hq H locs ls hI hl
    unfold X7_fortuneOf_L7 at hf
    refine lv_iload hx hb dX7_fortuneOf_7 (lv_at hl 4 rfl) ?_
    refine lv_sipush (v := (256 : Int32)) hx hb dX7_fortuneOf_9 (by decide) ?_
    refine lv_icmp_ge (tgt := 50) hx hb dX7_fortuneOf_12 (by decide) (fun hc => ?_) (fun hc => ?_)
    · replace hf := ipos hc hf
      exact hq _ (Option.some.inj hf).symm H locs ls hI (lv_sub hl [2, 3] rfl)
    · replace hf := ineg hc hf
      refine lv_iload hx hb dX7_fortuneOf_15 (lv_at hl 4 rfl) ?_
      refine lv_aload_n hx hb dX7_fortuneOf_17 rfl (lv_at hl 0 rfl) ?_
      refine lv_iconst (v := (0 : Int32)) hx hb dX7_fortuneOf_18 (by decide) ?_
      obtain ⟨x19, ex19, hf⟩ := obd hf
      refine tcallI (rest := [.int w7.2.2]) hx hb hts hown hE hz hI hml hl.1 (mX7_inState τ (0 : Int32) _ ex19) (cwX7_inState hts ⟨Nat.le_of_ble_eq_true rfl, Nat.le_of_ble_eq_true rfl⟩) ⟨Nat.le_of_ble_eq_true rfl, Nat.le_of_ble_eq_true rfl⟩ rfl rfl (lv_room (Nat.le_of_ble_eq_true rfl)) dX7_fortuneOf_19 (fun H locs hI => ?_)
      refine lv_iconst (v := (-1 : Int32)) hx hb dX7_fortuneOf_22 (by decide) ?_
      refine lv_ixor hx hb dX7_fortuneOf_23 ?_
      refine lv_iand hx hb dX7_fortuneOf_24 ?_
      refine lv_if_eq (tgt := 31) hx hb dX7_fortuneOf_25 (by decide) (fun hc => ?_) (fun hc => ?_)
      · replace hf := ipos hc hf
        refine lv_iload_n hx hb dX7_fortuneOf_31 rfl (lv_at hl 2 rfl) ?_
        refine lv_aload_n hx hb dX7_fortuneOf_32 rfl (lv_at hl 0 rfl) ?_
        refine lv_iload_n hx hb dX7_fortuneOf_33 rfl (lv_at hl 1 rfl) ?_
        refine lv_iload hx hb dX7_fortuneOf_34 (lv_at hl 4 rfl) ?_
        obtain ⟨x36, ex36, hf⟩ := obd hf
        refine tcallI (rest := [.int w7.1]) hx hb hts hown hE hz hI hml hl.1 (mX7_netOf τ c1 w7.2.2 _ ex36) (cwX7_netOf hts ⟨Nat.le_of_ble_eq_true rfl, Nat.le_of_ble_eq_true rfl⟩) ⟨Nat.le_of_ble_eq_true rfl, Nat.le_of_ble_eq_true rfl⟩ rfl rfl (lv_room (Nat.le_of_ble_eq_true rfl)) dX7_fortuneOf_36 (fun H locs hI => ?_)
        refine lv_iadd hx hb dX7_fortuneOf_39 ?_
        obtain ⟨v40, ev40, hf⟩ := obd hf
        refine nmI ev40 ?_
        refine lv_istore_n (lv' := [(2, .int v40), (0, .ref o), (1, .int c1), (3, .int w7.2.1), (4, .int w7.2.2)]) hx hb dX7_fortuneOf_40 rfl hl (by decide) rfl (fun ls hl => ?_)
        obtain ⟨v41, ev41, hf⟩ := obd hf
        refine lv_iinc (v := v41) (lv' := [(3, .int v41), (2, .int v40), (0, .ref o), (1, .int c1), (4, .int w7.2.2)]) hx hb dX7_fortuneOf_41 hl (k := 3) rfl (iiE ev41 (by decide)) (by decide) rfl (fun ls hl => ?_)
        obtain ⟨v44, ev44, hf⟩ := obd hf
        refine lv_iinc (v := v44) (lv' := [(4, .int v44), (3, .int v41), (2, .int v40), (0, .ref o), (1, .int c1)]) hx hb dX7_fortuneOf_44 hl (k := 4) rfl (iiE ev44 (by decide)) (by decide) rfl (fun ls hl => ?_)
        refine lv_goto (tgt := 7) hx hb dX7_fortuneOf_47 (by decide) ?_
        exact hk _ (Option.some.inj hf).symm H locs ls hI (lv_sub hl [3, 4, 2, 1, 0] rfl)
      · replace hf := ineg hc hf
        refine lv_goto (tgt := 44) hx hb dX7_fortuneOf_28 (by decide) ?_
        obtain ⟨v44_6, ev44_6, hf⟩ := obd hf
        refine lv_iinc (v := v44_6) (lv' := [(4, .int v44_6), (0, .ref o), (1, .int c1), (2, .int w7.1), (3, .int w7.2.1)]) hx hb dX7_fortuneOf_44 hl (k := 4) rfl (iiE ev44_6 (by decide)) (by decide) rfl (fun ls hl => ?_)
        refine lv_goto (tgt := 7) hx hb dX7_fortuneOf_47 (by decide) ?_
        exact hk _ (Option.some.inj hf).symm H locs ls hI (lv_sub hl [1, 2, 3, 4, 0] rfl)
  refine loopO_W (Wat := fun w7 => ∀ (H : Heap) (locs : List Loc) (ls : Array Slot), IT D cI cZ o s H locs τ → lv_has ls 5 [(0, .ref o), (1, .int a1), (2, .int w7.1), (3, .int w7.2.1), (4, .int w7.2.2)] → W p l e ({ frames := 4, cells := 0, slots := 0, locals := 110 } : Room) s m args below meth c H locs 0 0 Q (F0 m 7 ls [])) (Wex := fun ex_ => ∀ (H : Heap) (locs : List Loc) (ls : Array Slot), IT D cI cZ o s H locs τ → lv_has ls 5 [(2, .int ex_.1), (3, .int ex_.2)] → W p l e ({ frames := 4, cells := 0, slots := 0, locals := 110 } : Room) s m args below meth c H locs 0 0 Q (F0 m 50 ls [])) (hs7 a1) FU _ e7 he7 ?_ H locs ls hI (lv_sub hl [3, 4, 2, 1, 0] rfl)
  · skip
    intro H locs ls hI hl
    refine lv_iload_n hx hb dX7_fortuneOf_50 rfl (lv_at hl 0 rfl) ?_
    refine lv_iload_n hx hb dX7_fortuneOf_51 rfl (lv_at hl 1 rfl) ?_
    obtain ⟨_, en52, hf⟩ := obd hf
    refine lv_idiv hx hb dX7_fortuneOf_52 (dnz_e en52).2 ?_
    have hf := Option.some.inj hf
    rw [hf]
    exact hret H locs 53 ls hI dX7_fortuneOf_53
theorem cwX7_fortuneOf {R : Room} {s : State} {args : Array Value} {fr lo : Nat} (hts : ∀ w ∈ lw_all, w.before args s = true) (hR : fr + 1 ≤ R.frames ∧ 8 + (5 + 11) + lo ≤ R.locals) : CallW R s args RX7 RX7 316 yX7_fortuneOf cX7_fortuneOf 5 (some .int) (ws_ yX7_fortuneOf cX7_fortuneOf 5 (some .int)) ({ frames := fr, cells := 0, slots := 0, locals := lo }) 0 0 1 :=
  cwV 1 hts (lw_V q2397 q2399 qs97 q143 q2400) rfl rfl rfl (by decide +kernel) hR

def X7_party_J28 (τ : Mm) (a1 : Int32) (a2 : Int32) (y0 : Int32) : Option (Int32 × Mm) :=
  (some (mup τ 10 0 y0)).bind fun t28 =>
  if (t28 10 0) ≤ (0 : Int32) then
    if (2 : Int32) ≤ a2 then
      if a2 = (2 : Int32) then
        (X7_shareOf t28 a1).bind fun x66 =>
        some (x66, t28)
      else
        if a2 = (3 : Int32) then
          (X7_readingOf t28 a1 (0 : Int32)).bind fun x80 =>
          (X7_netOf t28 a1 x80).bind fun x83 =>
          some (x83, t28)
        else
          if a2 = (4 : Int32) then
            (X7_readingOf t28 a1 (1 : Int32)).bind fun x97 =>
            (X7_netOf t28 a1 x97).bind fun x100 =>
            some (x100, t28)
          else
            if a2 = (5 : Int32) then
              (X7_readingOf t28 a1 (1 : Int32)).bind fun x112 =>
              some (x112, t28)
            else
              (X7_fortuneOf t28 a1).bind fun x120 =>
              some (x120, t28)
    else
      (ld 781 (t28 0) (((15 : Int32) + ((2 : Int32) * a1)) + a2)).bind fun x57 =>
      some (x57, t28)
  else
    some ((0 : Int32), t28)
def X7_party (τ : Mm) (a1 : Int32) (a2 : Int32) : Option (Int32 × Mm) :=
  (X7_isParty τ a1).bind fun x3 =>
  if x3 = (0 : Int32) then
    X7_party_J28 τ a1 a2 (1 : Int32)
  else
    (X7_isIn a2 (0 : Int32) (6 : Int32)).bind fun x17 =>
    if x17 = (0 : Int32) then
      X7_party_J28 τ a1 a2 (2 : Int32)
    else
      X7_party_J28 τ a1 a2 (0 : Int32)
set_option maxHeartbeats 4000000 in
theorem mX7_party (τ : Mm) (a1 : Int32) (a2 : Int32) (r : Int32) (τ' : Mm) (hf : X7_party τ a1 a2 = some (r, τ')) : TMi yX7_party cX7_party 3 (some .int) 5 134 (fun aK => [.int a1, .int a2]) r τ τ' := by
  refine TMi.of (by decide) rfl (fun _ _ => Nat.le_of_ble_eq_true rfl) ?_
  intro p l e s m args below meth c D cI cZ o z aK aV Q ls hz hx hb hml hown hts hE hret hI hl
  obtain ⟨H, eH⟩ : ∃ H, H = s.heap := ⟨_, rfl⟩
  obtain ⟨locs, eL⟩ : ∃ L : List Loc, L = [] := ⟨_, rfl⟩
  rw [← eH, ← eL] at hI ⊢
  have hl : lv_has ls 3 [(0, .ref o), (1, .int a1), (2, .int a2)] := hl
  unfold X7_party at hf
  have hJ28 : ∀ (τ : Mm) (y0 : Int32) (H : Heap) (locs : List Loc) (ls : Array Slot), X7_party_J28 τ a1 a2 y0 = some (r, τ') → IT D cI cZ o s H locs τ → lv_has ls 3 [(0, .ref o), (1, .int a1), (2, .int a2)] → W p l e ({ frames := 5, cells := 0, slots := 0, locals := 134 } : Room) s m args below meth c H locs 0 0 Q (F0 m 28 ls [.int y0, .ref o]) := by
    intro τ y0 H locs ls hf hI hl
    unfold X7_party_J28 at hf
    obtain ⟨t28, et28, hf⟩ := obd hf
    refine tput hx hb hts hown hE hI 0 (by decide) q2100 rfl (tyX7_ok 0 (by decide)) rfl rfl rfl et28 dX7_party_28 (fun H locs hI => ?_)
    refine lv_aload_n hx hb dX7_party_31 rfl (lv_at hl 0 rfl) ?_
    refine tget hx hb hts hown hE hI 0 (by decide) q2100 rfl dX7_party_32 ?_
    refine lv_if_le (tgt := 40) hx hb dX7_party_35 (by decide) (fun hc => ?_) (fun hc => ?_)
    · replace hf := ipos hc hf
      refine lv_iload_n hx hb dX7_party_40 rfl (lv_at hl 2 rfl) ?_
      refine lv_iconst (v := (2 : Int32)) hx hb dX7_party_41 (by decide) ?_
      refine lv_icmp_ge (tgt := 59) hx hb dX7_party_42 (by decide) (fun hc => ?_) (fun hc => ?_)
      · replace hf := ipos hc hf
        refine lv_iload_n hx hb dX7_party_59 rfl (lv_at hl 2 rfl) ?_
        refine lv_iconst (v := (2 : Int32)) hx hb dX7_party_60 (by decide) ?_
        refine lv_icmp_ne (tgt := 70) hx hb dX7_party_61 (by decide) (fun hc => ?_) (fun hc => ?_)
        · replace hf := ineg hc hf
          refine lv_iload_n hx hb dX7_party_70 rfl (lv_at hl 2 rfl) ?_
          refine lv_iconst (v := (3 : Int32)) hx hb dX7_party_71 (by decide) ?_
          refine lv_icmp_ne (tgt := 87) hx hb dX7_party_72 (by decide) (fun hc => ?_) (fun hc => ?_)
          · replace hf := ineg hc hf
            refine lv_iload_n hx hb dX7_party_87 rfl (lv_at hl 2 rfl) ?_
            refine lv_iconst (v := (4 : Int32)) hx hb dX7_party_88 (by decide) ?_
            refine lv_icmp_ne (tgt := 104) hx hb dX7_party_89 (by decide) (fun hc => ?_) (fun hc => ?_)
            · replace hf := ineg hc hf
              refine lv_iload_n hx hb dX7_party_104 rfl (lv_at hl 2 rfl) ?_
              refine lv_iconst (v := (5 : Int32)) hx hb dX7_party_105 (by decide) ?_
              refine lv_icmp_ne (tgt := 118) hx hb dX7_party_106 (by decide) (fun hc => ?_) (fun hc => ?_)
              · replace hf := ineg hc hf
                refine lv_aload_n hx hb dX7_party_118 rfl (lv_at hl 0 rfl) ?_
                refine lv_iload_n hx hb dX7_party_119 rfl (lv_at hl 1 rfl) ?_
                obtain ⟨x120, ex120, hf⟩ := obd hf
                refine tcallI (rest := []) hx hb hts hown hE hz hI hml hl.1 (mX7_fortuneOf t28 a1 _ ex120) (cwX7_fortuneOf hts ⟨Nat.le_of_ble_eq_true rfl, Nat.le_of_ble_eq_true rfl⟩) ⟨Nat.le_of_ble_eq_true rfl, Nat.le_of_ble_eq_true rfl⟩ rfl rfl (lv_room (Nat.le_of_ble_eq_true rfl)) dX7_party_120 (fun H locs hI => ?_)
                have hf := Prod.mk.inj (Option.some.inj hf)
                rw [hf.1]
                exact hret H locs 123 ls (hf.2 ▸ hI) dX7_party_123
              · replace hf := ipos hc hf
                refine lv_aload_n hx hb dX7_party_109 rfl (lv_at hl 0 rfl) ?_
                refine lv_iload_n hx hb dX7_party_110 rfl (lv_at hl 1 rfl) ?_
                refine lv_iconst (v := (1 : Int32)) hx hb dX7_party_111 (by decide) ?_
                obtain ⟨x112, ex112, hf⟩ := obd hf
                refine tcallI (rest := []) hx hb hts hown hE hz hI hml hl.1 (mX7_readingOf t28 a1 (1 : Int32) _ ex112) (cwX7_readingOf hts ⟨Nat.le_of_ble_eq_true rfl, Nat.le_of_ble_eq_true rfl⟩) ⟨Nat.le_of_ble_eq_true rfl, Nat.le_of_ble_eq_true rfl⟩ rfl rfl (lv_room (Nat.le_of_ble_eq_true rfl)) dX7_party_112 (fun H locs hI => ?_)
                refine lv_goto (tgt := 123) hx hb dX7_party_115 (by decide) ?_
                have hf := Prod.mk.inj (Option.some.inj hf)
                rw [hf.1]
                exact hret H locs 123 ls (hf.2 ▸ hI) dX7_party_123
            · replace hf := ipos hc hf
              refine lv_aload_n hx hb dX7_party_92 rfl (lv_at hl 0 rfl) ?_
              refine lv_iload_n hx hb dX7_party_93 rfl (lv_at hl 1 rfl) ?_
              refine lv_aload_n hx hb dX7_party_94 rfl (lv_at hl 0 rfl) ?_
              refine lv_iload_n hx hb dX7_party_95 rfl (lv_at hl 1 rfl) ?_
              refine lv_iconst (v := (1 : Int32)) hx hb dX7_party_96 (by decide) ?_
              obtain ⟨x97, ex97, hf⟩ := obd hf
              refine tcallI (rest := [.int a1, .ref o]) hx hb hts hown hE hz hI hml hl.1 (mX7_readingOf t28 a1 (1 : Int32) _ ex97) (cwX7_readingOf hts ⟨Nat.le_of_ble_eq_true rfl, Nat.le_of_ble_eq_true rfl⟩) ⟨Nat.le_of_ble_eq_true rfl, Nat.le_of_ble_eq_true rfl⟩ rfl rfl (lv_room (Nat.le_of_ble_eq_true rfl)) dX7_party_97 (fun H locs hI => ?_)
              obtain ⟨x100, ex100, hf⟩ := obd hf
              refine tcallI (rest := []) hx hb hts hown hE hz hI hml hl.1 (mX7_netOf t28 a1 x97 _ ex100) (cwX7_netOf hts ⟨Nat.le_of_ble_eq_true rfl, Nat.le_of_ble_eq_true rfl⟩) ⟨Nat.le_of_ble_eq_true rfl, Nat.le_of_ble_eq_true rfl⟩ rfl rfl (lv_room (Nat.le_of_ble_eq_true rfl)) dX7_party_100 (fun H locs hI => ?_)
              have hf := Prod.mk.inj (Option.some.inj hf)
              rw [hf.1]
              exact hret H locs 103 ls (hf.2 ▸ hI) dX7_party_103
          · replace hf := ipos hc hf
            refine lv_aload_n hx hb dX7_party_75 rfl (lv_at hl 0 rfl) ?_
            refine lv_iload_n hx hb dX7_party_76 rfl (lv_at hl 1 rfl) ?_
            refine lv_aload_n hx hb dX7_party_77 rfl (lv_at hl 0 rfl) ?_
            refine lv_iload_n hx hb dX7_party_78 rfl (lv_at hl 1 rfl) ?_
            refine lv_iconst (v := (0 : Int32)) hx hb dX7_party_79 (by decide) ?_
            obtain ⟨x80, ex80, hf⟩ := obd hf
            refine tcallI (rest := [.int a1, .ref o]) hx hb hts hown hE hz hI hml hl.1 (mX7_readingOf t28 a1 (0 : Int32) _ ex80) (cwX7_readingOf hts ⟨Nat.le_of_ble_eq_true rfl, Nat.le_of_ble_eq_true rfl⟩) ⟨Nat.le_of_ble_eq_true rfl, Nat.le_of_ble_eq_true rfl⟩ rfl rfl (lv_room (Nat.le_of_ble_eq_true rfl)) dX7_party_80 (fun H locs hI => ?_)
            obtain ⟨x83, ex83, hf⟩ := obd hf
            refine tcallI (rest := []) hx hb hts hown hE hz hI hml hl.1 (mX7_netOf t28 a1 x80 _ ex83) (cwX7_netOf hts ⟨Nat.le_of_ble_eq_true rfl, Nat.le_of_ble_eq_true rfl⟩) ⟨Nat.le_of_ble_eq_true rfl, Nat.le_of_ble_eq_true rfl⟩ rfl rfl (lv_room (Nat.le_of_ble_eq_true rfl)) dX7_party_83 (fun H locs hI => ?_)
            have hf := Prod.mk.inj (Option.some.inj hf)
            rw [hf.1]
            exact hret H locs 86 ls (hf.2 ▸ hI) dX7_party_86
        · replace hf := ipos hc hf
          refine lv_aload_n hx hb dX7_party_64 rfl (lv_at hl 0 rfl) ?_
          refine lv_iload_n hx hb dX7_party_65 rfl (lv_at hl 1 rfl) ?_
          obtain ⟨x66, ex66, hf⟩ := obd hf
          refine tcallI (rest := []) hx hb hts hown hE hz hI hml hl.1 (mX7_shareOf t28 a1 _ ex66) (cwX7_shareOf hts ⟨Nat.le_of_ble_eq_true rfl, Nat.le_of_ble_eq_true rfl⟩) ⟨Nat.le_of_ble_eq_true rfl, Nat.le_of_ble_eq_true rfl⟩ rfl rfl (lv_room (Nat.le_of_ble_eq_true rfl)) dX7_party_66 (fun H locs hI => ?_)
          have hf := Prod.mk.inj (Option.some.inj hf)
          rw [hf.1]
          exact hret H locs 69 ls (hf.2 ▸ hI) dX7_party_69
      · replace hf := ineg hc hf
        refine lv_aload_n hx hb dX7_party_45 rfl (lv_at hl 0 rfl) ?_
        refine tget hx hb hts hown hE hI 1 (by decide) q2101 rfl dX7_party_46 ?_
        refine lv_bipush (v := (15 : Int32)) hx hb dX7_party_49 (by decide) ?_
        refine lv_iconst (v := (2 : Int32)) hx hb dX7_party_51 (by decide) ?_
        refine lv_iload_n hx hb dX7_party_52 rfl (lv_at hl 1 rfl) ?_
        refine lv_imul hx hb dX7_party_53 ?_
        refine lv_iadd hx hb dX7_party_54 ?_
        refine lv_iload_n hx hb dX7_party_55 rfl (lv_at hl 2 rfl) ?_
        refine lv_iadd hx hb dX7_party_56 ?_
        obtain ⟨x57, ex57, hf⟩ := obd hf
        refine tald hx hb hE hI 1 781 rfl ex57 dX7_party_57 ?_
        have hf := Prod.mk.inj (Option.some.inj hf)
        rw [hf.1]
        exact hret H locs 58 ls (hf.2 ▸ hI) dX7_party_58
    · replace hf := ineg hc hf
      refine lv_iconst (v := (0 : Int32)) hx hb dX7_party_38 (by decide) ?_
      have hf := Prod.mk.inj (Option.some.inj hf)
      rw [hf.1]
      exact hret H locs 39 ls (hf.2 ▸ hI) dX7_party_39
  refine lv_aload_n hx hb dX7_party_0 rfl (lv_at hl 0 rfl) ?_
  refine lv_aload_n hx hb dX7_party_1 rfl (lv_at hl 0 rfl) ?_
  refine lv_iload_n hx hb dX7_party_2 rfl (lv_at hl 1 rfl) ?_
  obtain ⟨x3, ex3, hf⟩ := obd hf
  refine tcallI (rest := [.ref o]) hx hb hts hown hE hz hI hml hl.1 (mX7_isParty τ a1 _ ex3) (cwX7_isParty hts ⟨Nat.le_of_ble_eq_true rfl, Nat.le_of_ble_eq_true rfl⟩) ⟨Nat.le_of_ble_eq_true rfl, Nat.le_of_ble_eq_true rfl⟩ rfl rfl (lv_room (Nat.le_of_ble_eq_true rfl)) dX7_party_3 (fun H locs hI => ?_)
  refine lv_if_ne (tgt := 13) hx hb dX7_party_6 (by decide) (fun hc => ?_) (fun hc => ?_)
  · replace hf := ineg hc hf
    refine lv_iload_n hx hb dX7_party_13 rfl (lv_at hl 2 rfl) ?_
    refine lv_iconst (v := (0 : Int32)) hx hb dX7_party_14 (by decide) ?_
    refine lv_bipush (v := (6 : Int32)) hx hb dX7_party_15 (by decide) ?_
    obtain ⟨x17, ex17, hf⟩ := obd hf
    refine tcallS (rest := [.ref o]) hx hb hts hown hml hl.1 (mX7_isIn a2 (0 : Int32) (6 : Int32) _ ex17) (cwX7_isIn hts ⟨Nat.le_of_ble_eq_true rfl, Nat.le_of_ble_eq_true rfl⟩) ⟨Nat.le_of_ble_eq_true rfl, Nat.le_of_ble_eq_true rfl⟩ rfl rfl (lv_room (Nat.le_of_ble_eq_true rfl)) dX7_party_17 ?_
    refine lv_if_ne (tgt := 27) hx hb dX7_party_20 (by decide) (fun hc => ?_) (fun hc => ?_)
    · replace hf := ineg hc hf
      refine lv_iconst (v := (0 : Int32)) hx hb dX7_party_27 (by decide) ?_
      exact hJ28 τ (0 : Int32) H locs ls hf hI  (lv_sub hl [0, 1, 2] rfl)
    · replace hf := ipos hc hf
      refine lv_iconst (v := (2 : Int32)) hx hb dX7_party_23 (by decide) ?_
      refine lv_goto (tgt := 28) hx hb dX7_party_24 (by decide) ?_
      exact hJ28 τ (2 : Int32) H locs ls hf hI  (lv_sub hl [0, 1, 2] rfl)
  · replace hf := ipos hc hf
    refine lv_iconst (v := (1 : Int32)) hx hb dX7_party_9 (by decide) ?_
    refine lv_goto (tgt := 28) hx hb dX7_party_10 (by decide) ?_
    exact hJ28 τ (1 : Int32) H locs ls hf hI  (lv_sub hl [0, 1, 2] rfl)


def X7_isInk (τ : Mm) (a1 : Int32) : Option (Int32) :=
  (X7_isIn a1 (0 : Int32) ((τ 0 4) - (1 : Int32))).bind fun x10 =>
  (zb x10).bind fun _ =>
  some x10
set_option maxHeartbeats 4000000 in
theorem mX7_isInk (τ : Mm) (a1 : Int32) (r : Int32) (hf : X7_isInk τ a1 = some r) : TMi yX7_isInk cX7_isInk 2 (some .boolean) 2 62 (fun aK => [.int a1]) r τ τ := by
  refine TMz.of (by decide) rfl (fun _ _ => Nat.le_of_ble_eq_true rfl) ?_
  intro p l e s m args below meth c D cI cZ o z aK aV Q ls hz hx hb hml hown hts hE hret hI hl
  obtain ⟨H, eH⟩ : ∃ H, H = s.heap := ⟨_, rfl⟩
  obtain ⟨locs, eL⟩ : ∃ L : List Loc, L = [] := ⟨_, rfl⟩
  rw [← eH, ← eL] at hI ⊢
  have hl : lv_has ls 2 [(0, .ref o), (1, .int a1)] := hl
  unfold X7_isInk at hf
  refine lv_iload_n hx hb dX7_isInk_0 rfl (lv_at hl 1 rfl) ?_
  refine lv_iconst (v := (0 : Int32)) hx hb dX7_isInk_1 (by decide) ?_
  refine lv_aload_n hx hb dX7_isInk_2 rfl (lv_at hl 0 rfl) ?_
  refine tget hx hb hts hown hE hI 1 (by decide) q2101 rfl dX7_isInk_3 ?_
  refine lv_iconst (v := (4 : Int32)) hx hb dX7_isInk_6 (by decide) ?_
  refine taldc hx hb hE hI 1 781 4 rfl (by decide) (by decide) dX7_isInk_7 ?_
  refine lv_iconst (v := (1 : Int32)) hx hb dX7_isInk_8 (by decide) ?_
  refine lv_isub hx hb dX7_isInk_9 ?_
  obtain ⟨x10, ex10, hf⟩ := obd hf
  refine tcallS (rest := []) hx hb hts hown hml hl.1 (mX7_isIn a1 (0 : Int32) ((τ 0 4) - (1 : Int32)) _ ex10) (cwX7_isIn hts ⟨Nat.le_of_ble_eq_true rfl, Nat.le_of_ble_eq_true rfl⟩) ⟨Nat.le_of_ble_eq_true rfl, Nat.le_of_ble_eq_true rfl⟩ rfl rfl (lv_room (Nat.le_of_ble_eq_true rfl)) dX7_isInk_10 ?_
  obtain ⟨_, eb13, hf⟩ := obd hf
  have hf := Option.some.inj hf
  rw [hf]
  exact hret H locs 13 ls hI (hf ▸ (zb_e eb13).2) dX7_isInk_13
theorem cwX7_isInk {R : Room} {s : State} {args : Array Value} {fr lo : Nat} (hts : ∀ w ∈ lw_all, w.before args s = true) (hR : fr + 1 ≤ R.frames ∧ 8 + (2 + 11) + lo ≤ R.locals) : CallW R s args RX7 RX7 319 yX7_isInk cX7_isInk 2 (some .boolean) (ws_ yX7_isInk cX7_isInk 2 (some .boolean)) ({ frames := fr, cells := 0, slots := 0, locals := lo }) 0 0 1 :=
  cwV 1 hts (lw_V q2405 q2407 qs98 q143 q2408) rfl rfl rfl (by decide +kernel) hR

def X7_ofInk (τ : Mm) (a1 : Int32) (a2 : Int32) : Option (Int32) :=
  (ld 781 (τ 0) (((27 : Int32) + ((3 : Int32) * a1)) + a2)).bind fun x12 =>
  some x12
set_option maxHeartbeats 4000000 in
theorem mX7_ofInk (τ : Mm) (a1 : Int32) (a2 : Int32) (r : Int32) (hf : X7_ofInk τ a1 a2 = some r) : TMi yX7_ofInk cX7_ofInk 3 (some .int) 1 40 (fun aK => [.int a1, .int a2]) r τ τ := by
  refine TMi.of (by decide) rfl (fun _ _ => Nat.le_of_ble_eq_true rfl) ?_
  intro p l e s m args below meth c D cI cZ o z aK aV Q ls hz hx hb hml hown hts hE hret hI hl
  obtain ⟨H, eH⟩ : ∃ H, H = s.heap := ⟨_, rfl⟩
  obtain ⟨locs, eL⟩ : ∃ L : List Loc, L = [] := ⟨_, rfl⟩
  rw [← eH, ← eL] at hI ⊢
  have hl : lv_has ls 3 [(0, .ref o), (1, .int a1), (2, .int a2)] := hl
  unfold X7_ofInk at hf
  refine lv_aload_n hx hb dX7_ofInk_0 rfl (lv_at hl 0 rfl) ?_
  refine tget hx hb hts hown hE hI 1 (by decide) q2101 rfl dX7_ofInk_1 ?_
  refine lv_bipush (v := (27 : Int32)) hx hb dX7_ofInk_4 (by decide) ?_
  refine lv_iconst (v := (3 : Int32)) hx hb dX7_ofInk_6 (by decide) ?_
  refine lv_iload_n hx hb dX7_ofInk_7 rfl (lv_at hl 1 rfl) ?_
  refine lv_imul hx hb dX7_ofInk_8 ?_
  refine lv_iadd hx hb dX7_ofInk_9 ?_
  refine lv_iload_n hx hb dX7_ofInk_10 rfl (lv_at hl 2 rfl) ?_
  refine lv_iadd hx hb dX7_ofInk_11 ?_
  obtain ⟨x12, ex12, hf⟩ := obd hf
  refine tald hx hb hE hI 1 781 rfl ex12 dX7_ofInk_12 ?_
  have hf := Option.some.inj hf
  rw [hf]
  exact hret H locs 13 ls hI dX7_ofInk_13
theorem cwX7_ofInk {R : Room} {s : State} {args : Array Value} {fr lo : Nat} (hts : ∀ w ∈ lw_all, w.before args s = true) (hR : fr + 1 ≤ R.frames ∧ 8 + (3 + 11) + lo ≤ R.locals) : CallW R s args RX7 RX7 67 yX7_ofInk cX7_ofInk 3 (some .int) (ws_ yX7_ofInk cX7_ofInk 3 (some .int)) ({ frames := fr, cells := 0, slots := 0, locals := lo }) 0 0 2 :=
  cwV 2 hts (lw_V q2409 q2411 qs99 q143 q2412) rfl rfl rfl (by decide +kernel) hR

def X7_jarOf_L4 (τ : Mm) (c1 : Int32) (w4 : Int32 × Int32) : Option ((Int32 × Int32) ⊕ (Int32)) :=
  if (τ 0 5) ≤ w4.2 then
    some (.inr w4.1)
  else
    (X7_of τ w4.2 (0 : Int32)).bind fun x18 =>
    if x18 = c1 then
      (some (w4.1 ||| ((1 : Int32) <<< (w4.2 &&& (31 : Int32))))).bind fun v33_4 =>
      (some (w4.2 + (1 : Int32))).bind fun v34_5 =>
      some (.inl (v33_4, v34_5))
    else
      (some (w4.1 ||| (0 : Int32))).bind fun v33 =>
      (some (w4.2 + (1 : Int32))).bind fun v34 =>
      some (.inl (v33, v34))
def X7_jarOf (τ : Mm) (a1 : Int32) : Option (Int32) :=
  (loopO (X7_jarOf_L4 τ a1) FU ((0 : Int32), (0 : Int32))).bind fun e4 =>
  some e4
set_option maxHeartbeats 4000000 in
theorem mX7_jarOf (τ : Mm) (a1 : Int32) (r : Int32) (hf : X7_jarOf τ a1 = some r) : TMi yX7_jarOf cX7_jarOf 4 (some .int) 2 62 (fun aK => [.int a1]) r τ τ := by
  refine TMi.of (by decide) rfl (fun _ _ => Nat.le_of_ble_eq_true rfl) ?_
  intro p l e s m args below meth c D cI cZ o z aK aV Q ls hz hx hb hml hown hts hE hret hI hl
  obtain ⟨H, eH⟩ : ∃ H, H = s.heap := ⟨_, rfl⟩
  obtain ⟨locs, eL⟩ : ∃ L : List Loc, L = [] := ⟨_, rfl⟩
  rw [← eH, ← eL] at hI ⊢
  have hl : lv_has ls 4 [(0, .ref o), (1, .int a1)] := hl
  unfold X7_jarOf at hf
  refine lv_iconst (v := (0 : Int32)) hx hb dX7_jarOf_0 (by decide) ?_
  refine lv_istore_n (lv' := [(2, .int (0 : Int32)), (0, .ref o), (1, .int a1)]) hx hb dX7_jarOf_1 rfl hl (by decide) rfl (fun ls hl => ?_)
  refine lv_iconst (v := (0 : Int32)) hx hb dX7_jarOf_2 (by decide) ?_
  refine lv_istore_n (lv' := [(3, .int (0 : Int32)), (2, .int (0 : Int32)), (0, .ref o), (1, .int a1)]) hx hb dX7_jarOf_3 rfl hl (by decide) rfl (fun ls hl => ?_)
  obtain ⟨e4, he4, hf⟩ := obd hf
  have hs4 : ∀ (c1 : Int32), ∀ (w4 : Int32 × Int32) (o4 : (Int32 × Int32) ⊕ (Int32)), X7_jarOf_L4 τ c1 w4 = some o4 → (∀ wx_, o4 = .inl wx_ → ∀ (H : Heap) (locs : List Loc) (ls : Array Slot), IT D cI cZ o s H locs τ → lv_has ls 4 [(0, .ref o), (1, .int c1), (2, .int wx_.1), (3, .int wx_.2)] → W p l e ({ frames := 2, cells := 0, slots := 0, locals := 62 } : Room) s m args below meth c H locs 0 0 Q (F0 m 4 ls [])) → (∀ ex_, o4 = .inr ex_ → ∀ (H : Heap) (locs : List Loc) (ls : Array Slot), IT D cI cZ o s H locs τ → lv_has ls 4 [(2, .int ex_)] → W p l e ({ frames := 2, cells := 0, slots := 0, locals := 62 } : Room) s m args below meth c H locs 0 0 Q (F0 m 40 ls [])) → ∀ (H : Heap) (locs : List Loc) (ls : Array Slot), IT D cI cZ o s H locs τ → lv_has ls 4 [(0, .ref o), (1, .int c1), (2, .int w4.1), (3, .int w4.2)] → W p l e ({ frames := 2, cells := 0, slots := 0, locals := 62 } : Room) s m args below meth c H locs 0 0 Q (F0 m 4 ls []) := by
    intro c1 w4 o4 hf hk hq H locs ls hI hl
    unfold X7_jarOf_L4 at hf
    refine lv_iload_n hx hb dX7_jarOf_4 rfl (lv_at hl 3 rfl) ?_
    refine lv_aload_n hx hb dX7_jarOf_5 rfl (lv_at hl 0 rfl) ?_
    refine tget hx hb hts hown hE hI 1 (by decide) q2101 rfl dX7_jarOf_6 ?_
    refine lv_iconst (v := (5 : Int32)) hx hb dX7_jarOf_9 (by decide) ?_
    refine taldc hx hb hE hI 1 781 5 rfl (by decide) (by decide) dX7_jarOf_10 ?_
    refine lv_icmp_ge (tgt := 40) hx hb dX7_jarOf_11 (by decide) (fun hc => ?_) (fun hc => ?_)
    · replace hf := ipos hc hf
      exact hq _ (Option.some.inj hf).symm H locs ls hI (lv_sub hl [2] rfl)
    · replace hf := ineg hc hf
      refine lv_iload_n hx hb dX7_jarOf_14 rfl (lv_at hl 2 rfl) ?_
      refine lv_aload_n hx hb dX7_jarOf_15 rfl (lv_at hl 0 rfl) ?_
      refine lv_iload_n hx hb dX7_jarOf_16 rfl (lv_at hl 3 rfl) ?_
      refine lv_iconst (v := (0 : Int32)) hx hb dX7_jarOf_17 (by decide) ?_
      obtain ⟨x18, ex18, hf⟩ := obd hf
      refine tcallI (rest := [.int w4.1]) hx hb hts hown hE hz hI hml hl.1 (mX7_of τ w4.2 (0 : Int32) _ ex18) (cwX7_of hts ⟨Nat.le_of_ble_eq_true rfl, Nat.le_of_ble_eq_true rfl⟩) ⟨Nat.le_of_ble_eq_true rfl, Nat.le_of_ble_eq_true rfl⟩ rfl rfl (lv_room (Nat.le_of_ble_eq_true rfl)) dX7_jarOf_18 (fun H locs hI => ?_)
      refine lv_iload_n hx hb dX7_jarOf_21 rfl (lv_at hl 1 rfl) ?_
      refine lv_icmp_ne (tgt := 31) hx hb dX7_jarOf_22 (by decide) (fun hc => ?_) (fun hc => ?_)
      · replace hf := ineg hc hf
        refine lv_iconst (v := (0 : Int32)) hx hb dX7_jarOf_31 (by decide) ?_
        refine lv_ior hx hb dX7_jarOf_32 ?_
        obtain ⟨v33, ev33, hf⟩ := obd hf
        refine nmI ev33 ?_
        refine lv_istore_n (lv' := [(2, .int v33), (0, .ref o), (1, .int c1), (3, .int w4.2)]) hx hb dX7_jarOf_33 rfl hl (by decide) rfl (fun ls hl => ?_)
        obtain ⟨v34, ev34, hf⟩ := obd hf
        refine lv_iinc (v := v34) (lv' := [(3, .int v34), (2, .int v33), (0, .ref o), (1, .int c1)]) hx hb dX7_jarOf_34 hl (k := 3) rfl (iiE ev34 (by decide)) (by decide) rfl (fun ls hl => ?_)
        refine lv_goto (tgt := 4) hx hb dX7_jarOf_37 (by decide) ?_
        exact hk _ (Option.some.inj hf).symm H locs ls hI (lv_sub hl [2, 3, 1, 0] rfl)
      · replace hf := ipos hc hf
        refine lv_iconst (v := (1 : Int32)) hx hb dX7_jarOf_25 (by decide) ?_
        refine lv_iload_n hx hb dX7_jarOf_26 rfl (lv_at hl 3 rfl) ?_
        refine lv_ishl hx hb dX7_jarOf_27 ?_
        refine lv_goto (tgt := 32) hx hb dX7_jarOf_28 (by decide) ?_
        refine lv_ior hx hb dX7_jarOf_32 ?_
        obtain ⟨v33_4, ev33_4, hf⟩ := obd hf
        refine nmI ev33_4 ?_
        refine lv_istore_n (lv' := [(2, .int v33_4), (0, .ref o), (1, .int c1), (3, .int w4.2)]) hx hb dX7_jarOf_33 rfl hl (by decide) rfl (fun ls hl => ?_)
        obtain ⟨v34_5, ev34_5, hf⟩ := obd hf
        refine lv_iinc (v := v34_5) (lv' := [(3, .int v34_5), (2, .int v33_4), (0, .ref o), (1, .int c1)]) hx hb dX7_jarOf_34 hl (k := 3) rfl (iiE ev34_5 (by decide)) (by decide) rfl (fun ls hl => ?_)
        refine lv_goto (tgt := 4) hx hb dX7_jarOf_37 (by decide) ?_
        exact hk _ (Option.some.inj hf).symm H locs ls hI (lv_sub hl [2, 3, 1, 0] rfl)
  refine loopO_W (Wat := fun w4 => ∀ (H : Heap) (locs : List Loc) (ls : Array Slot), IT D cI cZ o s H locs τ → lv_has ls 4 [(0, .ref o), (1, .int a1), (2, .int w4.1), (3, .int w4.2)] → W p l e ({ frames := 2, cells := 0, slots := 0, locals := 62 } : Room) s m args below meth c H locs 0 0 Q (F0 m 4 ls [])) (Wex := fun ex_ => ∀ (H : Heap) (locs : List Loc) (ls : Array Slot), IT D cI cZ o s H locs τ → lv_has ls 4 [(2, .int ex_)] → W p l e ({ frames := 2, cells := 0, slots := 0, locals := 62 } : Room) s m args below meth c H locs 0 0 Q (F0 m 40 ls [])) (hs4 a1) FU _ e4 he4 ?_ H locs ls hI (lv_sub hl [2, 3, 1, 0] rfl)
  · skip
    intro H locs ls hI hl
    refine lv_iload_n hx hb dX7_jarOf_40 rfl (lv_at hl 0 rfl) ?_
    have hf := Option.some.inj hf
    rw [hf]
    exact hret H locs 41 ls hI dX7_jarOf_41
theorem cwX7_jarOf {R : Room} {s : State} {args : Array Value} {fr lo : Nat} (hts : ∀ w ∈ lw_all, w.before args s = true) (hR : fr + 1 ≤ R.frames ∧ 8 + (4 + 11) + lo ≤ R.locals) : CallW R s args RX7 RX7 322 yX7_jarOf cX7_jarOf 4 (some .int) (ws_ yX7_jarOf cX7_jarOf 4 (some .int)) ({ frames := fr, cells := 0, slots := 0, locals := lo }) 0 0 1 :=
  cwV 1 hts (lw_V q2413 q2415 qs100 q143 q2416) rfl rfl rfl (by decide +kernel) hR

def X7_ink_J27 (τ : Mm) (a1 : Int32) (a2 : Int32) (y0 : Int32) : Option (Int32 × Mm) :=
  (some (mup τ 10 0 y0)).bind fun t27 =>
  if (t27 10 0) ≤ (0 : Int32) then
    if (3 : Int32) ≤ a2 then
      (X7_jarOf t27 a1).bind fun x55 =>
      some (x55, t27)
    else
      (X7_ofInk t27 a1 a2).bind fun x47 =>
      some (x47, t27)
  else
    some ((0 : Int32), t27)
def X7_ink (τ : Mm) (a1 : Int32) (a2 : Int32) : Option (Int32 × Mm) :=
  (X7_isInk τ a1).bind fun x3 =>
  if x3 = (0 : Int32) then
    X7_ink_J27 τ a1 a2 (1 : Int32)
  else
    (X7_isIn a2 (0 : Int32) (3 : Int32)).bind fun x16 =>
    if x16 = (0 : Int32) then
      X7_ink_J27 τ a1 a2 (2 : Int32)
    else
      X7_ink_J27 τ a1 a2 (0 : Int32)
set_option maxHeartbeats 4000000 in
theorem mX7_ink (τ : Mm) (a1 : Int32) (a2 : Int32) (r : Int32) (τ' : Mm) (hf : X7_ink τ a1 a2 = some (r, τ')) : TMi yX7_ink cX7_ink 3 (some .int) 3 85 (fun aK => [.int a1, .int a2]) r τ τ' := by
  refine TMi.of (by decide) rfl (fun _ _ => Nat.le_of_ble_eq_true rfl) ?_
  intro p l e s m args below meth c D cI cZ o z aK aV Q ls hz hx hb hml hown hts hE hret hI hl
  obtain ⟨H, eH⟩ : ∃ H, H = s.heap := ⟨_, rfl⟩
  obtain ⟨locs, eL⟩ : ∃ L : List Loc, L = [] := ⟨_, rfl⟩
  rw [← eH, ← eL] at hI ⊢
  have hl : lv_has ls 3 [(0, .ref o), (1, .int a1), (2, .int a2)] := hl
  unfold X7_ink at hf
  have hJ27 : ∀ (τ : Mm) (y0 : Int32) (H : Heap) (locs : List Loc) (ls : Array Slot), X7_ink_J27 τ a1 a2 y0 = some (r, τ') → IT D cI cZ o s H locs τ → lv_has ls 3 [(0, .ref o), (1, .int a1), (2, .int a2)] → W p l e ({ frames := 3, cells := 0, slots := 0, locals := 85 } : Room) s m args below meth c H locs 0 0 Q (F0 m 27 ls [.int y0, .ref o]) := by
    intro τ y0 H locs ls hf hI hl
    unfold X7_ink_J27 at hf
    obtain ⟨t27, et27, hf⟩ := obd hf
    refine tput hx hb hts hown hE hI 0 (by decide) q2100 rfl (tyX7_ok 0 (by decide)) rfl rfl rfl et27 dX7_ink_27 (fun H locs hI => ?_)
    refine lv_aload_n hx hb dX7_ink_30 rfl (lv_at hl 0 rfl) ?_
    refine tget hx hb hts hown hE hI 0 (by decide) q2100 rfl dX7_ink_31 ?_
    refine lv_if_le (tgt := 39) hx hb dX7_ink_34 (by decide) (fun hc => ?_) (fun hc => ?_)
    · replace hf := ipos hc hf
      refine lv_iload_n hx hb dX7_ink_39 rfl (lv_at hl 2 rfl) ?_
      refine lv_iconst (v := (3 : Int32)) hx hb dX7_ink_40 (by decide) ?_
      refine lv_icmp_ge (tgt := 53) hx hb dX7_ink_41 (by decide) (fun hc => ?_) (fun hc => ?_)
      · replace hf := ipos hc hf
        refine lv_aload_n hx hb dX7_ink_53 rfl (lv_at hl 0 rfl) ?_
        refine lv_iload_n hx hb dX7_ink_54 rfl (lv_at hl 1 rfl) ?_
        obtain ⟨x55, ex55, hf⟩ := obd hf
        refine tcallI (rest := []) hx hb hts hown hE hz hI hml hl.1 (mX7_jarOf t27 a1 _ ex55) (cwX7_jarOf hts ⟨Nat.le_of_ble_eq_true rfl, Nat.le_of_ble_eq_true rfl⟩) ⟨Nat.le_of_ble_eq_true rfl, Nat.le_of_ble_eq_true rfl⟩ rfl rfl (lv_room (Nat.le_of_ble_eq_true rfl)) dX7_ink_55 (fun H locs hI => ?_)
        have hf := Prod.mk.inj (Option.some.inj hf)
        rw [hf.1]
        exact hret H locs 58 ls (hf.2 ▸ hI) dX7_ink_58
      · replace hf := ineg hc hf
        refine lv_aload_n hx hb dX7_ink_44 rfl (lv_at hl 0 rfl) ?_
        refine lv_iload_n hx hb dX7_ink_45 rfl (lv_at hl 1 rfl) ?_
        refine lv_iload_n hx hb dX7_ink_46 rfl (lv_at hl 2 rfl) ?_
        obtain ⟨x47, ex47, hf⟩ := obd hf
        refine tcallI (rest := []) hx hb hts hown hE hz hI hml hl.1 (mX7_ofInk t27 a1 a2 _ ex47) (cwX7_ofInk hts ⟨Nat.le_of_ble_eq_true rfl, Nat.le_of_ble_eq_true rfl⟩) ⟨Nat.le_of_ble_eq_true rfl, Nat.le_of_ble_eq_true rfl⟩ rfl rfl (lv_room (Nat.le_of_ble_eq_true rfl)) dX7_ink_47 (fun H locs hI => ?_)
        refine lv_goto (tgt := 58) hx hb dX7_ink_50 (by decide) ?_
        have hf := Prod.mk.inj (Option.some.inj hf)
        rw [hf.1]
        exact hret H locs 58 ls (hf.2 ▸ hI) dX7_ink_58
    · replace hf := ineg hc hf
      refine lv_iconst (v := (0 : Int32)) hx hb dX7_ink_37 (by decide) ?_
      have hf := Prod.mk.inj (Option.some.inj hf)
      rw [hf.1]
      exact hret H locs 38 ls (hf.2 ▸ hI) dX7_ink_38
  refine lv_aload_n hx hb dX7_ink_0 rfl (lv_at hl 0 rfl) ?_
  refine lv_aload_n hx hb dX7_ink_1 rfl (lv_at hl 0 rfl) ?_
  refine lv_iload_n hx hb dX7_ink_2 rfl (lv_at hl 1 rfl) ?_
  obtain ⟨x3, ex3, hf⟩ := obd hf
  refine tcallI (rest := [.ref o]) hx hb hts hown hE hz hI hml hl.1 (mX7_isInk τ a1 _ ex3) (cwX7_isInk hts ⟨Nat.le_of_ble_eq_true rfl, Nat.le_of_ble_eq_true rfl⟩) ⟨Nat.le_of_ble_eq_true rfl, Nat.le_of_ble_eq_true rfl⟩ rfl rfl (lv_room (Nat.le_of_ble_eq_true rfl)) dX7_ink_3 (fun H locs hI => ?_)
  refine lv_if_ne (tgt := 13) hx hb dX7_ink_6 (by decide) (fun hc => ?_) (fun hc => ?_)
  · replace hf := ineg hc hf
    refine lv_iload_n hx hb dX7_ink_13 rfl (lv_at hl 2 rfl) ?_
    refine lv_iconst (v := (0 : Int32)) hx hb dX7_ink_14 (by decide) ?_
    refine lv_iconst (v := (3 : Int32)) hx hb dX7_ink_15 (by decide) ?_
    obtain ⟨x16, ex16, hf⟩ := obd hf
    refine tcallS (rest := [.ref o]) hx hb hts hown hml hl.1 (mX7_isIn a2 (0 : Int32) (3 : Int32) _ ex16) (cwX7_isIn hts ⟨Nat.le_of_ble_eq_true rfl, Nat.le_of_ble_eq_true rfl⟩) ⟨Nat.le_of_ble_eq_true rfl, Nat.le_of_ble_eq_true rfl⟩ rfl rfl (lv_room (Nat.le_of_ble_eq_true rfl)) dX7_ink_16 ?_
    refine lv_if_ne (tgt := 26) hx hb dX7_ink_19 (by decide) (fun hc => ?_) (fun hc => ?_)
    · replace hf := ineg hc hf
      refine lv_iconst (v := (0 : Int32)) hx hb dX7_ink_26 (by decide) ?_
      exact hJ27 τ (0 : Int32) H locs ls hf hI  (lv_sub hl [0, 1, 2] rfl)
    · replace hf := ipos hc hf
      refine lv_iconst (v := (2 : Int32)) hx hb dX7_ink_22 (by decide) ?_
      refine lv_goto (tgt := 27) hx hb dX7_ink_23 (by decide) ?_
      exact hJ27 τ (2 : Int32) H locs ls hf hI  (lv_sub hl [0, 1, 2] rfl)
  · replace hf := ipos hc hf
    refine lv_iconst (v := (1 : Int32)) hx hb dX7_ink_9 (by decide) ?_
    refine lv_goto (tgt := 27) hx hb dX7_ink_10 (by decide) ?_
    exact hJ27 τ (1 : Int32) H locs ls hf hI  (lv_sub hl [0, 1, 2] rfl)


def X7_isDeed (τ : Mm) (a1 : Int32) : Option (Int32) :=
  (X7_isIn a1 (0 : Int32) ((τ 0 5) - (1 : Int32))).bind fun x10 =>
  (zb x10).bind fun _ =>
  some x10
set_option maxHeartbeats 4000000 in
theorem mX7_isDeed (τ : Mm) (a1 : Int32) (r : Int32) (hf : X7_isDeed τ a1 = some r) : TMi yX7_isDeed cX7_isDeed 2 (some .boolean) 2 62 (fun aK => [.int a1]) r τ τ := by
  refine TMz.of (by decide) rfl (fun _ _ => Nat.le_of_ble_eq_true rfl) ?_
  intro p l e s m args below meth c D cI cZ o z aK aV Q ls hz hx hb hml hown hts hE hret hI hl
  obtain ⟨H, eH⟩ : ∃ H, H = s.heap := ⟨_, rfl⟩
  obtain ⟨locs, eL⟩ : ∃ L : List Loc, L = [] := ⟨_, rfl⟩
  rw [← eH, ← eL] at hI ⊢
  have hl : lv_has ls 2 [(0, .ref o), (1, .int a1)] := hl
  unfold X7_isDeed at hf
  refine lv_iload_n hx hb dX7_isDeed_0 rfl (lv_at hl 1 rfl) ?_
  refine lv_iconst (v := (0 : Int32)) hx hb dX7_isDeed_1 (by decide) ?_
  refine lv_aload_n hx hb dX7_isDeed_2 rfl (lv_at hl 0 rfl) ?_
  refine tget hx hb hts hown hE hI 1 (by decide) q2101 rfl dX7_isDeed_3 ?_
  refine lv_iconst (v := (5 : Int32)) hx hb dX7_isDeed_6 (by decide) ?_
  refine taldc hx hb hE hI 1 781 5 rfl (by decide) (by decide) dX7_isDeed_7 ?_
  refine lv_iconst (v := (1 : Int32)) hx hb dX7_isDeed_8 (by decide) ?_
  refine lv_isub hx hb dX7_isDeed_9 ?_
  obtain ⟨x10, ex10, hf⟩ := obd hf
  refine tcallS (rest := []) hx hb hts hown hml hl.1 (mX7_isIn a1 (0 : Int32) ((τ 0 5) - (1 : Int32)) _ ex10) (cwX7_isIn hts ⟨Nat.le_of_ble_eq_true rfl, Nat.le_of_ble_eq_true rfl⟩) ⟨Nat.le_of_ble_eq_true rfl, Nat.le_of_ble_eq_true rfl⟩ rfl rfl (lv_room (Nat.le_of_ble_eq_true rfl)) dX7_isDeed_10 ?_
  obtain ⟨_, eb13, hf⟩ := obd hf
  have hf := Option.some.inj hf
  rw [hf]
  exact hret H locs 13 ls hI (hf ▸ (zb_e eb13).2) dX7_isDeed_13
theorem cwX7_isDeed {R : Room} {s : State} {args : Array Value} {fr lo : Nat} (hts : ∀ w ∈ lw_all, w.before args s = true) (hR : fr + 1 ≤ R.frames ∧ 8 + (2 + 11) + lo ≤ R.locals) : CallW R s args RX7 RX7 325 yX7_isDeed cX7_isDeed 2 (some .boolean) (ws_ yX7_isDeed cX7_isDeed 2 (some .boolean)) ({ frames := fr, cells := 0, slots := 0, locals := lo }) 0 0 1 :=
  cwV 1 hts (lw_V q2421 q2423 qs101 q143 q2424) rfl rfl rfl (by decide +kernel) hR

def X7_soaked (τ : Mm) (a1 : Int32) (a2 : Int32) : Option (Int32) :=
  (X7_ofInk τ a1 (2 : Int32)).bind fun x3 =>
  (ld 781 (τ 0) ((11 : Int32) + a2)).bind fun x14 =>
  some ((x3 * x14) / (10 : Int32))
set_option maxHeartbeats 4000000 in
theorem mX7_soaked (τ : Mm) (a1 : Int32) (a2 : Int32) (r : Int32) (hf : X7_soaked τ a1 a2 = some r) : TMi yX7_soaked cX7_soaked 3 (some .int) 2 62 (fun aK => [.int a1, .int a2]) r τ τ := by
  refine TMi.of (by decide) rfl (fun _ _ => Nat.le_of_ble_eq_true rfl) ?_
  intro p l e s m args below meth c D cI cZ o z aK aV Q ls hz hx hb hml hown hts hE hret hI hl
  obtain ⟨H, eH⟩ : ∃ H, H = s.heap := ⟨_, rfl⟩
  obtain ⟨locs, eL⟩ : ∃ L : List Loc, L = [] := ⟨_, rfl⟩
  rw [← eH, ← eL] at hI ⊢
  have hl : lv_has ls 3 [(0, .ref o), (1, .int a1), (2, .int a2)] := hl
  unfold X7_soaked at hf
  refine lv_aload_n hx hb dX7_soaked_0 rfl (lv_at hl 0 rfl) ?_
  refine lv_iload_n hx hb dX7_soaked_1 rfl (lv_at hl 1 rfl) ?_
  refine lv_iconst (v := (2 : Int32)) hx hb dX7_soaked_2 (by decide) ?_
  obtain ⟨x3, ex3, hf⟩ := obd hf
  refine tcallI (rest := []) hx hb hts hown hE hz hI hml hl.1 (mX7_ofInk τ a1 (2 : Int32) _ ex3) (cwX7_ofInk hts ⟨Nat.le_of_ble_eq_true rfl, Nat.le_of_ble_eq_true rfl⟩) ⟨Nat.le_of_ble_eq_true rfl, Nat.le_of_ble_eq_true rfl⟩ rfl rfl (lv_room (Nat.le_of_ble_eq_true rfl)) dX7_soaked_3 (fun H locs hI => ?_)
  refine lv_aload_n hx hb dX7_soaked_6 rfl (lv_at hl 0 rfl) ?_
  refine tget hx hb hts hown hE hI 1 (by decide) q2101 rfl dX7_soaked_7 ?_
  refine lv_bipush (v := (11 : Int32)) hx hb dX7_soaked_10 (by decide) ?_
  refine lv_iload_n hx hb dX7_soaked_12 rfl (lv_at hl 2 rfl) ?_
  refine lv_iadd hx hb dX7_soaked_13 ?_
  obtain ⟨x14, ex14, hf⟩ := obd hf
  refine tald hx hb hE hI 1 781 rfl ex14 dX7_soaked_14 ?_
  refine lv_imul hx hb dX7_soaked_15 ?_
  refine lv_bipush (v := (10 : Int32)) hx hb dX7_soaked_16 (by decide) ?_
  refine lv_idiv hx hb dX7_soaked_18 (by decide) ?_
  have hf := Option.some.inj hf
  rw [hf]
  exact hret H locs 19 ls hI dX7_soaked_19
theorem cwX7_soaked {R : Room} {s : State} {args : Array Value} {fr lo : Nat} (hts : ∀ w ∈ lw_all, w.before args s = true) (hR : fr + 1 ≤ R.frames ∧ 8 + (3 + 11) + lo ≤ R.locals) : CallW R s args RX7 RX7 266 yX7_soaked cX7_soaked 3 (some .int) (ws_ yX7_soaked cX7_soaked 3 (some .int)) ({ frames := fr, cells := 0, slots := 0, locals := lo }) 0 0 2 :=
  cwV 2 hts (lw_V q2429 q2431 qs103 q143 q2432) rfl rfl rfl (by decide +kernel) hR

def X7_greater (a0 : Int32) (a1 : Int32) : Option (Int32) :=
  if a0 ≤ a1 then
    some a1
  else
    some a0
set_option maxHeartbeats 4000000 in
theorem mX7_greater (a0 : Int32) (a1 : Int32) (r : Int32) (hf : X7_greater a0 a1 = some r) : SMi yX7_greater cX7_greater 2 (some .int) 1 40 [.int a0, .int a1] r := by
  refine SMi.of (by decide) (Nat.le_of_ble_eq_true rfl) ?_
  intro p l e s m args below meth c Q ls hx hb hml hown hts hret hl
  have hl : lv_has ls 2 [(0, .int a0), (1, .int a1)] := hl
  unfold X7_greater at hf
  refine lv_iload_n hx hb dX7_greater_0 rfl (lv_at hl 0 rfl) ?_
  refine lv_iload_n hx hb dX7_greater_1 rfl (lv_at hl 1 rfl) ?_
  refine lv_icmp_le (tgt := 9) hx hb dX7_greater_2 (by decide) (fun hc => ?_) (fun hc => ?_)
  · replace hf := ipos hc hf
    refine lv_iload_n hx hb dX7_greater_9 rfl (lv_at hl 1 rfl) ?_
    have hf := Option.some.inj hf
    rw [hf]
    exact hret 10 ls dX7_greater_10
  · replace hf := ineg hc hf
    refine lv_iload_n hx hb dX7_greater_5 rfl (lv_at hl 0 rfl) ?_
    refine lv_goto (tgt := 10) hx hb dX7_greater_6 (by decide) ?_
    have hf := Option.some.inj hf
    rw [hf]
    exact hret 10 ls dX7_greater_10
theorem cwX7_greater {R : Room} {s : State} {args : Array Value} {fr lo : Nat} (hts : ∀ w ∈ lw_all, w.before args s = true) (hR : fr + 1 ≤ R.frames ∧ 8 + (2 + 11) + lo ≤ R.locals) : CallB R s args RX7 269 yX7_greater cX7_greater 2 (some .int) (ws_ yX7_greater cX7_greater 2 (some .int)) ({ frames := fr, cells := 0, slots := 0, locals := lo }) 0 0 2 ∧ (Cond.static yX7_greater).before args s = true :=
  va_cwS 2 hts (lw_S q2433 q2434 q143 q2435) rfl rfl rfl (by decide +kernel) hR

def X7_asks_J195 (τ : Mm) (x3 : Int32) (y0 : Int32) : Option (Mm) :=
  (some (mup τ 10 10 y0)).bind fun t195 =>
  (some (mup t195 10 11 (0 : Int32))).bind fun t200 =>
  (some (mup t200 10 13 (0 : Int32))).bind fun t205 =>
  (X7_read t205 (1 : Int32)).bind fun x210 =>
  (some (mup x210.2 10 12 x3)).bind fun t217 =>
  (X7_greater (0 : Int32) (t217 10 17)).bind fun x226 =>
  (some (mup t217 10 17 x226)).bind fun t229 =>
  some t229
def X7_asks_J154 (τ : Mm) (y0 : Int32) : Option (Mm) :=
  (zb y0).bind fun _ =>
  (some (mup τ 10 16 y0)).bind fun t154 =>
  (some (t154 10 12)).bind fun v161 =>
  (some (mup t154 10 12 (-1 : Int32))).bind fun t164 =>
  (some (mup t164 10 9 (381 : Int32))).bind fun t171 =>
  if (1 : Int32) ≤ (t171 0 1) then
    X7_asks_J195 t171 v161 (t171 0 2)
  else
    X7_asks_J195 t171 v161 (0 : Int32)
def X7_asks_J134 (τ : Mm) (a1 : Int32) (y0 : Int32) : Option (Mm) :=
  (zb y0).bind fun _ =>
  (some (mup τ 10 15 y0)).bind fun t134 =>
  (X7_of t134 a1 (6 : Int32)).bind fun x142 =>
  if x142 = (-1 : Int32) then
    X7_asks_J154 t134 (0 : Int32)
  else
    X7_asks_J154 t134 (1 : Int32)
def X7_asks (τ : Mm) (a1 : Int32) : Option (Mm) :=
  (some ((τ 0 6) - (τ 0 6) / (4 : Int32) * (4 : Int32))).bind fun v9 =>
  (X7_of τ a1 (0 : Int32)).bind fun x16 =>
  (X7_soaked τ x16 v9).bind fun x20 =>
  (some (mup τ 10 17 ((1 : Int32) + x20))).bind fun t24 =>
  (some (mup t24 10 18 (t24 0 7))).bind fun t35 =>
  (sto 7 t35 5 (0 : Int32) a1).bind fun t44 =>
  (X7_of t44 a1 (0 : Int32)).bind fun x53 =>
  (sto 7 t44 5 (1 : Int32) x53).bind fun t56 =>
  (X7_of t56 a1 (3 : Int32)).bind fun x65 =>
  (sto 7 t56 5 (2 : Int32) x65).bind fun t68 =>
  (X7_of t68 a1 (8 : Int32)).bind fun x78 =>
  (sto 7 t68 5 (3 : Int32) x78).bind fun t81 =>
  (sto 7 t81 5 (4 : Int32) v9).bind fun t88 =>
  (ld 781 (t88 0) ((11 : Int32) + v9)).bind fun x102 =>
  (sto 7 t88 5 (5 : Int32) x102).bind fun t103 =>
  (sto 7 t103 5 (6 : Int32) (t103 0 7)).bind fun t117 =>
  (X7_of t117 a1 (5 : Int32)).bind fun x122 =>
  if x122 = (-1 : Int32) then
    X7_asks_J134 t117 a1 (0 : Int32)
  else
    X7_asks_J134 t117 a1 (1 : Int32)
set_option maxHeartbeats 4000000 in
theorem mX7_asks (τ : Mm) (a1 : Int32) (τ' : Mm) (hf : X7_asks τ a1 = some τ') : TMv yX7_asks cX7_asks 5 none 692 20046 (fun aK => [.int a1]) τ τ' := by
  refine TMv.of (by decide) rfl (fun _ _ => Nat.le_of_ble_eq_true rfl) ?_
  intro p l e s m args below meth c D cI cZ o z aK aV Q ls hz hx hb hml hown hts hE hret hI hl
  obtain ⟨H, eH⟩ : ∃ H, H = s.heap := ⟨_, rfl⟩
  obtain ⟨locs, eL⟩ : ∃ L : List Loc, L = [] := ⟨_, rfl⟩
  rw [← eH, ← eL] at hI ⊢
  have hl : lv_has ls 5 [(0, .ref o), (1, .int a1)] := hl
  unfold X7_asks at hf
  have hJ195 : ∀ (τ : Mm) (x3 : Int32) (y0 : Int32) (H : Heap) (locs : List Loc) (ls : Array Slot), X7_asks_J195 τ x3 y0 = some τ' → IT D cI cZ o s H locs τ → lv_has ls 5 [(0, .ref o), (3, .int x3)] → W p l e ({ frames := 692, cells := 0, slots := 0, locals := 20046 } : Room) s m args below meth c H locs 0 0 Q (F0 m 195 ls [.int y0, .ref o]) := by
    intro τ x3 y0 H locs ls hf hI hl
    unfold X7_asks_J195 at hf
    obtain ⟨t195, et195, hf⟩ := obd hf
    refine tput hx hb hts hown hE hI 10 (by decide) q2110 rfl (tyX7_ok 10 (by decide)) rfl rfl rfl et195 dX7_asks_195 (fun H locs hI => ?_)
    refine lv_aload_n hx hb dX7_asks_198 rfl (lv_at hl 0 rfl) ?_
    refine lv_iconst (v := (0 : Int32)) hx hb dX7_asks_199 (by decide) ?_
    obtain ⟨t200, et200, hf⟩ := obd hf
    refine tput hx hb hts hown hE hI 11 (by decide) q2111 rfl (tyX7_ok 11 (by decide)) rfl rfl rfl et200 dX7_asks_200 (fun H locs hI => ?_)
    refine lv_aload_n hx hb dX7_asks_203 rfl (lv_at hl 0 rfl) ?_
    refine lv_iconst (v := (0 : Int32)) hx hb dX7_asks_204 (by decide) ?_
    obtain ⟨t205, et205, hf⟩ := obd hf
    refine tput hx hb hts hown hE hI 13 (by decide) q2113 rfl (tyX7_ok 13 (by decide)) rfl rfl rfl et205 dX7_asks_205 (fun H locs hI => ?_)
    refine lv_aload_n hx hb dX7_asks_208 rfl (lv_at hl 0 rfl) ?_
    refine lv_iconst (v := (1 : Int32)) hx hb dX7_asks_209 (by decide) ?_
    obtain ⟨x210, ex210, hf⟩ := obd hf
    refine tcallI (rest := []) hx hb hts hown hE hz hI hml hl.1 (mX7_read t205 (1 : Int32) _ _ ex210) (cwX7_read hts ⟨Nat.le_of_ble_eq_true rfl, Nat.le_of_ble_eq_true rfl⟩) ⟨Nat.le_of_ble_eq_true rfl, Nat.le_of_ble_eq_true rfl⟩ rfl rfl (lv_room (Nat.le_of_ble_eq_true rfl)) dX7_asks_210 (fun H locs hI => ?_)
    refine lv_istore (lv' := [(4, .int x210.1), (0, .ref o), (3, .int x3)]) hx hb dX7_asks_213 hl (by decide) rfl (fun ls hl => ?_)
    refine lv_aload_n hx hb dX7_asks_215 rfl (lv_at hl 1 rfl) ?_
    refine lv_iload_n hx hb dX7_asks_216 rfl (lv_at hl 2 rfl) ?_
    obtain ⟨t217, et217, hf⟩ := obd hf
    refine tput hx hb hts hown hE hI 12 (by decide) q2112 rfl (tyX7_ok 12 (by decide)) rfl rfl rfl et217 dX7_asks_217 (fun H locs hI => ?_)
    refine lv_aload_n hx hb dX7_asks_220 rfl (lv_at hl 1 rfl) ?_
    refine lv_iconst (v := (0 : Int32)) hx hb dX7_asks_221 (by decide) ?_
    refine lv_aload_n hx hb dX7_asks_222 rfl (lv_at hl 1 rfl) ?_
    refine tget hx hb hts hown hE hI 17 (by decide) q2117 rfl dX7_asks_223 ?_
    obtain ⟨x226, ex226, hf⟩ := obd hf
    refine tcallS (rest := [.ref o]) hx hb hts hown hml hl.1 (mX7_greater (0 : Int32) (t217 10 17) _ ex226) (cwX7_greater hts ⟨Nat.le_of_ble_eq_true rfl, Nat.le_of_ble_eq_true rfl⟩) ⟨Nat.le_of_ble_eq_true rfl, Nat.le_of_ble_eq_true rfl⟩ rfl rfl (lv_room (Nat.le_of_ble_eq_true rfl)) dX7_asks_226 ?_
    obtain ⟨t229, et229, hf⟩ := obd hf
    refine tput hx hb hts hown hE hI 17 (by decide) q2117 rfl (tyX7_ok 17 (by decide)) rfl rfl rfl et229 dX7_asks_229 (fun H locs hI => ?_)
    exact hret H locs 232 ls ((Option.some.inj hf) ▸ hI) dX7_asks_232
  have hJ154 : ∀ (τ : Mm) (y0 : Int32) (H : Heap) (locs : List Loc) (ls : Array Slot), X7_asks_J154 τ y0 = some τ' → IT D cI cZ o s H locs τ → lv_has ls 5 [(0, .ref o)] → W p l e ({ frames := 692, cells := 0, slots := 0, locals := 20046 } : Room) s m args below meth c H locs 0 0 Q (F0 m 154 ls [.int y0, .ref o]) := by
    intro τ y0 H locs ls hf hI hl
    unfold X7_asks_J154 at hf
    obtain ⟨_, eb154, hf⟩ := obd hf
    obtain ⟨t154, et154, hf⟩ := obd hf
    refine tput hx hb hts hown hE hI 16 (by decide) q2116 rfl (tyX7_ok 16 (by decide)) (zb_n (zb_e eb154).2) (zb_f (zb_e eb154).2) rfl et154 dX7_asks_154 (fun H locs hI => ?_)
    refine lv_aload_n hx hb dX7_asks_157 rfl (lv_at hl 0 rfl) ?_
    refine tget hx hb hts hown hE hI 12 (by decide) q2112 rfl dX7_asks_158 ?_
    obtain ⟨v161, ev161, hf⟩ := obd hf
    refine nmI ev161 ?_
    refine lv_istore_n (lv' := [(3, .int v161), (0, .ref o)]) hx hb dX7_asks_161 rfl hl (by decide) rfl (fun ls hl => ?_)
    refine lv_aload_n hx hb dX7_asks_162 rfl (lv_at hl 1 rfl) ?_
    refine lv_iconst (v := (-1 : Int32)) hx hb dX7_asks_163 (by decide) ?_
    obtain ⟨t164, et164, hf⟩ := obd hf
    refine tput hx hb hts hown hE hI 12 (by decide) q2112 rfl (tyX7_ok 12 (by decide)) rfl rfl rfl et164 dX7_asks_164 (fun H locs hI => ?_)
    refine lv_aload_n hx hb dX7_asks_167 rfl (lv_at hl 1 rfl) ?_
    refine lv_sipush (v := (381 : Int32)) hx hb dX7_asks_168 (by decide) ?_
    obtain ⟨t171, et171, hf⟩ := obd hf
    refine tput hx hb hts hown hE hI 9 (by decide) q2109 rfl (tyX7_ok 9 (by decide)) rfl rfl rfl et171 dX7_asks_171 (fun H locs hI => ?_)
    refine lv_aload_n hx hb dX7_asks_174 rfl (lv_at hl 1 rfl) ?_
    refine lv_aload_n hx hb dX7_asks_175 rfl (lv_at hl 1 rfl) ?_
    refine tget hx hb hts hown hE hI 1 (by decide) q2101 rfl dX7_asks_176 ?_
    refine lv_iconst (v := (1 : Int32)) hx hb dX7_asks_179 (by decide) ?_
    refine taldc hx hb hE hI 1 781 1 rfl (by decide) (by decide) dX7_asks_180 ?_
    refine lv_iconst (v := (1 : Int32)) hx hb dX7_asks_181 (by decide) ?_
    refine lv_icmp_ge (tgt := 189) hx hb dX7_asks_182 (by decide) (fun hc => ?_) (fun hc => ?_)
    · replace hf := ipos hc hf
      refine lv_aload_n hx hb dX7_asks_189 rfl (lv_at hl 1 rfl) ?_
      refine tget hx hb hts hown hE hI 1 (by decide) q2101 rfl dX7_asks_190 ?_
      refine lv_iconst (v := (2 : Int32)) hx hb dX7_asks_193 (by decide) ?_
      refine taldc hx hb hE hI 1 781 2 rfl (by decide) (by decide) dX7_asks_194 ?_
      exact hJ195 t171 v161 (t171 0 2) H locs ls hf hI  (lv_sub hl [1, 0] rfl)
    · replace hf := ineg hc hf
      refine lv_iconst (v := (0 : Int32)) hx hb dX7_asks_185 (by decide) ?_
      refine lv_goto (tgt := 195) hx hb dX7_asks_186 (by decide) ?_
      exact hJ195 t171 v161 (0 : Int32) H locs ls hf hI  (lv_sub hl [1, 0] rfl)
  have hJ134 : ∀ (τ : Mm) (y0 : Int32) (H : Heap) (locs : List Loc) (ls : Array Slot), X7_asks_J134 τ a1 y0 = some τ' → IT D cI cZ o s H locs τ → lv_has ls 5 [(0, .ref o), (1, .int a1)] → W p l e ({ frames := 692, cells := 0, slots := 0, locals := 20046 } : Room) s m args below meth c H locs 0 0 Q (F0 m 134 ls [.int y0, .ref o]) := by
    intro τ y0 H locs ls hf hI hl
    unfold X7_asks_J134 at hf
    obtain ⟨_, eb134, hf⟩ := obd hf
    obtain ⟨t134, et134, hf⟩ := obd hf
    refine tput hx hb hts hown hE hI 15 (by decide) q2115 rfl (tyX7_ok 15 (by decide)) (zb_n (zb_e eb134).2) (zb_f (zb_e eb134).2) rfl et134 dX7_asks_134 (fun H locs hI => ?_)
    refine lv_aload_n hx hb dX7_asks_137 rfl (lv_at hl 0 rfl) ?_
    refine lv_aload_n hx hb dX7_asks_138 rfl (lv_at hl 0 rfl) ?_
    refine lv_iload_n hx hb dX7_asks_139 rfl (lv_at hl 1 rfl) ?_
    refine lv_bipush (v := (6 : Int32)) hx hb dX7_asks_140 (by decide) ?_
    obtain ⟨x142, ex142, hf⟩ := obd hf
    refine tcallI (rest := [.ref o]) hx hb hts hown hE hz hI hml hl.1 (mX7_of t134 a1 (6 : Int32) _ ex142) (cwX7_of hts ⟨Nat.le_of_ble_eq_true rfl, Nat.le_of_ble_eq_true rfl⟩) ⟨Nat.le_of_ble_eq_true rfl, Nat.le_of_ble_eq_true rfl⟩ rfl rfl (lv_room (Nat.le_of_ble_eq_true rfl)) dX7_asks_142 (fun H locs hI => ?_)
    refine lv_iconst (v := (-1 : Int32)) hx hb dX7_asks_145 (by decide) ?_
    refine lv_icmp_eq (tgt := 153) hx hb dX7_asks_146 (by decide) (fun hc => ?_) (fun hc => ?_)
    · replace hf := ipos hc hf
      refine lv_iconst (v := (0 : Int32)) hx hb dX7_asks_153 (by decide) ?_
      exact hJ154 t134 (0 : Int32) H locs ls hf hI  (lv_sub hl [0] rfl)
    · replace hf := ineg hc hf
      refine lv_iconst (v := (1 : Int32)) hx hb dX7_asks_149 (by decide) ?_
      refine lv_goto (tgt := 154) hx hb dX7_asks_150 (by decide) ?_
      exact hJ154 t134 (1 : Int32) H locs ls hf hI  (lv_sub hl [0] rfl)
  refine lv_aload_n hx hb dX7_asks_0 rfl (lv_at hl 0 rfl) ?_
  refine tget hx hb hts hown hE hI 1 (by decide) q2101 rfl dX7_asks_1 ?_
  refine lv_bipush (v := (6 : Int32)) hx hb dX7_asks_4 (by decide) ?_
  refine taldc hx hb hE hI 1 781 6 rfl (by decide) (by decide) dX7_asks_6 ?_
  refine lv_iconst (v := (4 : Int32)) hx hb dX7_asks_7 (by decide) ?_
  refine lv_irem hx hb dX7_asks_8 (by decide) ?_
  obtain ⟨v9, ev9, hf⟩ := obd hf
  refine nmI ev9 ?_
  refine lv_istore_n (lv' := [(2, .int v9), (0, .ref o), (1, .int a1)]) hx hb dX7_asks_9 rfl hl (by decide) rfl (fun ls hl => ?_)
  refine lv_aload_n hx hb dX7_asks_10 rfl (lv_at hl 1 rfl) ?_
  refine lv_iconst (v := (1 : Int32)) hx hb dX7_asks_11 (by decide) ?_
  refine lv_aload_n hx hb dX7_asks_12 rfl (lv_at hl 1 rfl) ?_
  refine lv_aload_n hx hb dX7_asks_13 rfl (lv_at hl 1 rfl) ?_
  refine lv_iload_n hx hb dX7_asks_14 rfl (lv_at hl 2 rfl) ?_
  refine lv_iconst (v := (0 : Int32)) hx hb dX7_asks_15 (by decide) ?_
  obtain ⟨x16, ex16, hf⟩ := obd hf
  refine tcallI (rest := [.ref o, .int (1 : Int32), .ref o]) hx hb hts hown hE hz hI hml hl.1 (mX7_of τ a1 (0 : Int32) _ ex16) (cwX7_of hts ⟨Nat.le_of_ble_eq_true rfl, Nat.le_of_ble_eq_true rfl⟩) ⟨Nat.le_of_ble_eq_true rfl, Nat.le_of_ble_eq_true rfl⟩ rfl rfl (lv_room (Nat.le_of_ble_eq_true rfl)) dX7_asks_16 (fun H locs hI => ?_)
  refine lv_iload_n hx hb dX7_asks_19 rfl (lv_at hl 0 rfl) ?_
  obtain ⟨x20, ex20, hf⟩ := obd hf
  refine tcallI (rest := [.int (1 : Int32), .ref o]) hx hb hts hown hE hz hI hml hl.1 (mX7_soaked τ x16 v9 _ ex20) (cwX7_soaked hts ⟨Nat.le_of_ble_eq_true rfl, Nat.le_of_ble_eq_true rfl⟩) ⟨Nat.le_of_ble_eq_true rfl, Nat.le_of_ble_eq_true rfl⟩ rfl rfl (lv_room (Nat.le_of_ble_eq_true rfl)) dX7_asks_20 (fun H locs hI => ?_)
  refine lv_iadd hx hb dX7_asks_23 ?_
  obtain ⟨t24, et24, hf⟩ := obd hf
  refine tput hx hb hts hown hE hI 17 (by decide) q2117 rfl (tyX7_ok 17 (by decide)) rfl rfl rfl et24 dX7_asks_24 (fun H locs hI => ?_)
  refine lv_aload_n hx hb dX7_asks_27 rfl (lv_at hl 1 rfl) ?_
  refine lv_aload_n hx hb dX7_asks_28 rfl (lv_at hl 1 rfl) ?_
  refine tget hx hb hts hown hE hI 1 (by decide) q2101 rfl dX7_asks_29 ?_
  refine lv_bipush (v := (7 : Int32)) hx hb dX7_asks_32 (by decide) ?_
  refine taldc hx hb hE hI 1 781 7 rfl (by decide) (by decide) dX7_asks_34 ?_
  obtain ⟨t35, et35, hf⟩ := obd hf
  refine tput hx hb hts hown hE hI 18 (by decide) q2118 rfl (tyX7_ok 18 (by decide)) rfl rfl rfl et35 dX7_asks_35 (fun H locs hI => ?_)
  refine lv_aload_n hx hb dX7_asks_38 rfl (lv_at hl 1 rfl) ?_
  refine tget hx hb hts hown hE hI 14 (by decide) q2114 rfl dX7_asks_39 ?_
  refine lv_iconst (v := (0 : Int32)) hx hb dX7_asks_42 (by decide) ?_
  refine lv_iload_n hx hb dX7_asks_43 rfl (lv_at hl 2 rfl) ?_
  obtain ⟨t44, et44, hf⟩ := obd hf
  refine tast hx hb hE hI 6 7 5 rfl (fun _ => rfl) et44 dX7_asks_44 (fun H locs hI => ?_)
  refine lv_aload_n hx hb dX7_asks_45 rfl (lv_at hl 1 rfl) ?_
  refine tget hx hb hts hown hE hI 14 (by decide) q2114 rfl dX7_asks_46 ?_
  refine lv_iconst (v := (1 : Int32)) hx hb dX7_asks_49 (by decide) ?_
  refine lv_aload_n hx hb dX7_asks_50 rfl (lv_at hl 1 rfl) ?_
  refine lv_iload_n hx hb dX7_asks_51 rfl (lv_at hl 2 rfl) ?_
  refine lv_iconst (v := (0 : Int32)) hx hb dX7_asks_52 (by decide) ?_
  obtain ⟨x53, ex53, hf⟩ := obd hf
  refine tcallI (rest := [.int (1 : Int32), .ref (o + 6)]) hx hb hts hown hE hz hI hml hl.1 (mX7_of t44 a1 (0 : Int32) _ ex53) (cwX7_of hts ⟨Nat.le_of_ble_eq_true rfl, Nat.le_of_ble_eq_true rfl⟩) ⟨Nat.le_of_ble_eq_true rfl, Nat.le_of_ble_eq_true rfl⟩ rfl rfl (lv_room (Nat.le_of_ble_eq_true rfl)) dX7_asks_53 (fun H locs hI => ?_)
  obtain ⟨t56, et56, hf⟩ := obd hf
  refine tast hx hb hE hI 6 7 5 rfl (fun _ => rfl) et56 dX7_asks_56 (fun H locs hI => ?_)
  refine lv_aload_n hx hb dX7_asks_57 rfl (lv_at hl 1 rfl) ?_
  refine tget hx hb hts hown hE hI 14 (by decide) q2114 rfl dX7_asks_58 ?_
  refine lv_iconst (v := (2 : Int32)) hx hb dX7_asks_61 (by decide) ?_
  refine lv_aload_n hx hb dX7_asks_62 rfl (lv_at hl 1 rfl) ?_
  refine lv_iload_n hx hb dX7_asks_63 rfl (lv_at hl 2 rfl) ?_
  refine lv_iconst (v := (3 : Int32)) hx hb dX7_asks_64 (by decide) ?_
  obtain ⟨x65, ex65, hf⟩ := obd hf
  refine tcallI (rest := [.int (2 : Int32), .ref (o + 6)]) hx hb hts hown hE hz hI hml hl.1 (mX7_of t56 a1 (3 : Int32) _ ex65) (cwX7_of hts ⟨Nat.le_of_ble_eq_true rfl, Nat.le_of_ble_eq_true rfl⟩) ⟨Nat.le_of_ble_eq_true rfl, Nat.le_of_ble_eq_true rfl⟩ rfl rfl (lv_room (Nat.le_of_ble_eq_true rfl)) dX7_asks_65 (fun H locs hI => ?_)
  obtain ⟨t68, et68, hf⟩ := obd hf
  refine tast hx hb hE hI 6 7 5 rfl (fun _ => rfl) et68 dX7_asks_68 (fun H locs hI => ?_)
  refine lv_aload_n hx hb dX7_asks_69 rfl (lv_at hl 1 rfl) ?_
  refine tget hx hb hts hown hE hI 14 (by decide) q2114 rfl dX7_asks_70 ?_
  refine lv_iconst (v := (3 : Int32)) hx hb dX7_asks_73 (by decide) ?_
  refine lv_aload_n hx hb dX7_asks_74 rfl (lv_at hl 1 rfl) ?_
  refine lv_iload_n hx hb dX7_asks_75 rfl (lv_at hl 2 rfl) ?_
  refine lv_bipush (v := (8 : Int32)) hx hb dX7_asks_76 (by decide) ?_
  obtain ⟨x78, ex78, hf⟩ := obd hf
  refine tcallI (rest := [.int (3 : Int32), .ref (o + 6)]) hx hb hts hown hE hz hI hml hl.1 (mX7_of t68 a1 (8 : Int32) _ ex78) (cwX7_of hts ⟨Nat.le_of_ble_eq_true rfl, Nat.le_of_ble_eq_true rfl⟩) ⟨Nat.le_of_ble_eq_true rfl, Nat.le_of_ble_eq_true rfl⟩ rfl rfl (lv_room (Nat.le_of_ble_eq_true rfl)) dX7_asks_78 (fun H locs hI => ?_)
  obtain ⟨t81, et81, hf⟩ := obd hf
  refine tast hx hb hE hI 6 7 5 rfl (fun _ => rfl) et81 dX7_asks_81 (fun H locs hI => ?_)
  refine lv_aload_n hx hb dX7_asks_82 rfl (lv_at hl 1 rfl) ?_
  refine tget hx hb hts hown hE hI 14 (by decide) q2114 rfl dX7_asks_83 ?_
  refine lv_iconst (v := (4 : Int32)) hx hb dX7_asks_86 (by decide) ?_
  refine lv_iload_n hx hb dX7_asks_87 rfl (lv_at hl 0 rfl) ?_
  obtain ⟨t88, et88, hf⟩ := obd hf
  refine tast hx hb hE hI 6 7 5 rfl (fun _ => rfl) et88 dX7_asks_88 (fun H locs hI => ?_)
  refine lv_aload_n hx hb dX7_asks_89 rfl (lv_at hl 1 rfl) ?_
  refine tget hx hb hts hown hE hI 14 (by decide) q2114 rfl dX7_asks_90 ?_
  refine lv_iconst (v := (5 : Int32)) hx hb dX7_asks_93 (by decide) ?_
  refine lv_aload_n hx hb dX7_asks_94 rfl (lv_at hl 1 rfl) ?_
  refine tget hx hb hts hown hE hI 1 (by decide) q2101 rfl dX7_asks_95 ?_
  refine lv_bipush (v := (11 : Int32)) hx hb dX7_asks_98 (by decide) ?_
  refine lv_iload_n hx hb dX7_asks_100 rfl (lv_at hl 0 rfl) ?_
  refine lv_iadd hx hb dX7_asks_101 ?_
  obtain ⟨x102, ex102, hf⟩ := obd hf
  refine tald hx hb hE hI 1 781 rfl ex102 dX7_asks_102 ?_
  obtain ⟨t103, et103, hf⟩ := obd hf
  refine tast hx hb hE hI 6 7 5 rfl (fun _ => rfl) et103 dX7_asks_103 (fun H locs hI => ?_)
  refine lv_aload_n hx hb dX7_asks_104 rfl (lv_at hl 1 rfl) ?_
  refine tget hx hb hts hown hE hI 14 (by decide) q2114 rfl dX7_asks_105 ?_
  refine lv_bipush (v := (6 : Int32)) hx hb dX7_asks_108 (by decide) ?_
  refine lv_aload_n hx hb dX7_asks_110 rfl (lv_at hl 1 rfl) ?_
  refine tget hx hb hts hown hE hI 1 (by decide) q2101 rfl dX7_asks_111 ?_
  refine lv_bipush (v := (7 : Int32)) hx hb dX7_asks_114 (by decide) ?_
  refine taldc hx hb hE hI 1 781 7 rfl (by decide) (by decide) dX7_asks_116 ?_
  obtain ⟨t117, et117, hf⟩ := obd hf
  refine tast hx hb hE hI 6 7 5 rfl (fun _ => rfl) et117 dX7_asks_117 (fun H locs hI => ?_)
  refine lv_aload_n hx hb dX7_asks_118 rfl (lv_at hl 1 rfl) ?_
  refine lv_aload_n hx hb dX7_asks_119 rfl (lv_at hl 1 rfl) ?_
  refine lv_iload_n hx hb dX7_asks_120 rfl (lv_at hl 2 rfl) ?_
  refine lv_iconst (v := (5 : Int32)) hx hb dX7_asks_121 (by decide) ?_
  obtain ⟨x122, ex122, hf⟩ := obd hf
  refine tcallI (rest := [.ref o]) hx hb hts hown hE hz hI hml hl.1 (mX7_of t117 a1 (5 : Int32) _ ex122) (cwX7_of hts ⟨Nat.le_of_ble_eq_true rfl, Nat.le_of_ble_eq_true rfl⟩) ⟨Nat.le_of_ble_eq_true rfl, Nat.le_of_ble_eq_true rfl⟩ rfl rfl (lv_room (Nat.le_of_ble_eq_true rfl)) dX7_asks_122 (fun H locs hI => ?_)
  refine lv_iconst (v := (-1 : Int32)) hx hb dX7_asks_125 (by decide) ?_
  refine lv_icmp_eq (tgt := 133) hx hb dX7_asks_126 (by decide) (fun hc => ?_) (fun hc => ?_)
  · replace hf := ipos hc hf
    refine lv_iconst (v := (0 : Int32)) hx hb dX7_asks_133 (by decide) ?_
    exact hJ134 t117 (0 : Int32) H locs ls hf hI  (lv_sub hl [1, 2] rfl)
  · replace hf := ineg hc hf
    refine lv_iconst (v := (1 : Int32)) hx hb dX7_asks_129 (by decide) ?_
    refine lv_goto (tgt := 134) hx hb dX7_asks_130 (by decide) ?_
    exact hJ134 t117 (1 : Int32) H locs ls hf hI  (lv_sub hl [1, 2] rfl)
theorem cwX7_asks {R : Room} {s : State} {args : Array Value} {fr lo : Nat} (hts : ∀ w ∈ lw_all, w.before args s = true) (hR : fr + 1 ≤ R.frames ∧ 8 + (5 + 11) + lo ≤ R.locals) : CallW R s args RX7 RX7 272 yX7_asks cX7_asks 5 (none) (ws_ yX7_asks cX7_asks 5 (none)) ({ frames := fr, cells := 0, slots := 0, locals := lo }) 0 0 1 :=
  cwV 1 hts (lw_V q2425 q2427 qs102 q143 q2428) rfl rfl rfl (by decide +kernel) hR

def X7_isValidNow (τ : Mm) (a1 : Int32) : Option (Int32) :=
  (X7_inState τ (1 : Int32)).bind fun x4 =>
  (X7_isValid τ a1 x4).bind fun x7 =>
  (zb x7).bind fun _ =>
  some x7
set_option maxHeartbeats 4000000 in
theorem mX7_isValidNow (τ : Mm) (a1 : Int32) (r : Int32) (hf : X7_isValidNow τ a1 = some r) : TMi yX7_isValidNow cX7_isValidNow 2 (some .boolean) 3 85 (fun aK => [.int a1]) r τ τ := by
  refine TMz.of (by decide) rfl (fun _ _ => Nat.le_of_ble_eq_true rfl) ?_
  intro p l e s m args below meth c D cI cZ o z aK aV Q ls hz hx hb hml hown hts hE hret hI hl
  obtain ⟨H, eH⟩ : ∃ H, H = s.heap := ⟨_, rfl⟩
  obtain ⟨locs, eL⟩ : ∃ L : List Loc, L = [] := ⟨_, rfl⟩
  rw [← eH, ← eL] at hI ⊢
  have hl : lv_has ls 2 [(0, .ref o), (1, .int a1)] := hl
  unfold X7_isValidNow at hf
  refine lv_aload_n hx hb dX7_isValidNow_0 rfl (lv_at hl 0 rfl) ?_
  refine lv_iload_n hx hb dX7_isValidNow_1 rfl (lv_at hl 1 rfl) ?_
  refine lv_aload_n hx hb dX7_isValidNow_2 rfl (lv_at hl 0 rfl) ?_
  refine lv_iconst (v := (1 : Int32)) hx hb dX7_isValidNow_3 (by decide) ?_
  obtain ⟨x4, ex4, hf⟩ := obd hf
  refine tcallI (rest := [.int a1, .ref o]) hx hb hts hown hE hz hI hml hl.1 (mX7_inState τ (1 : Int32) _ ex4) (cwX7_inState hts ⟨Nat.le_of_ble_eq_true rfl, Nat.le_of_ble_eq_true rfl⟩) ⟨Nat.le_of_ble_eq_true rfl, Nat.le_of_ble_eq_true rfl⟩ rfl rfl (lv_room (Nat.le_of_ble_eq_true rfl)) dX7_isValidNow_4 (fun H locs hI => ?_)
  obtain ⟨x7, ex7, hf⟩ := obd hf
  refine tcallI (rest := []) hx hb hts hown hE hz hI hml hl.1 (mX7_isValid τ a1 x4 _ ex7) (cwX7_isValid hts ⟨Nat.le_of_ble_eq_true rfl, Nat.le_of_ble_eq_true rfl⟩) ⟨Nat.le_of_ble_eq_true rfl, Nat.le_of_ble_eq_true rfl⟩ rfl rfl (lv_room (Nat.le_of_ble_eq_true rfl)) dX7_isValidNow_7 (fun H locs hI => ?_)
  obtain ⟨_, eb10, hf⟩ := obd hf
  have hf := Option.some.inj hf
  rw [hf]
  exact hret H locs 10 ls hI (hf ▸ (zb_e eb10).2) dX7_isValidNow_10
theorem cwX7_isValidNow {R : Room} {s : State} {args : Array Value} {fr lo : Nat} (hts : ∀ w ∈ lw_all, w.before args s = true) (hR : fr + 1 ≤ R.frames ∧ 8 + (2 + 11) + lo ≤ R.locals) : CallW R s args RX7 RX7 294 yX7_isValidNow cX7_isValidNow 2 (some .boolean) (ws_ yX7_isValidNow cX7_isValidNow 2 (some .boolean)) ({ frames := fr, cells := 0, slots := 0, locals := lo }) 0 0 1 :=
  cwV 1 hts (lw_V q2436 q2438 qs104 q143 q2439) rfl rfl rfl (by decide +kernel) hR

def X7_draw (τ : Mm) (a1 : Int32) : Option (Int32 × Mm) :=
  (sto 781 τ 0 (10 : Int32) (((1103515245 : Int32) * (τ 0 10)) + (12345 : Int32))).bind fun t21 =>
  (dnz a1).bind fun _ =>
  some (((((t21 0 10).toUInt32 >>> ((16 : Int32).toUInt32 &&& Int32.toUInt32 31)).toInt32 &&& (32767 : Int32)) - (((t21 0 10).toUInt32 >>> ((16 : Int32).toUInt32 &&& Int32.toUInt32 31)).toInt32 &&& (32767 : Int32)) / a1 * a1), t21)
set_option maxHeartbeats 4000000 in
theorem mX7_draw (τ : Mm) (a1 : Int32) (r : Int32) (τ' : Mm) (hf : X7_draw τ a1 = some (r, τ')) : TMi yX7_draw cX7_draw 2 (some .int) 1 40 (fun aK => [.int a1]) r τ τ' := by
  refine TMi.of (by decide) rfl (fun _ _ => Nat.le_of_ble_eq_true rfl) ?_
  intro p l e s m args below meth c D cI cZ o z aK aV Q ls hz hx hb hml hown hts hE hret hI hl
  obtain ⟨H, eH⟩ : ∃ H, H = s.heap := ⟨_, rfl⟩
  obtain ⟨locs, eL⟩ : ∃ L : List Loc, L = [] := ⟨_, rfl⟩
  rw [← eH, ← eL] at hI ⊢
  have hl : lv_has ls 2 [(0, .ref o), (1, .int a1)] := hl
  unfold X7_draw at hf
  refine lv_aload_n hx hb dX7_draw_0 rfl (lv_at hl 0 rfl) ?_
  refine tget hx hb hts hown hE hI 1 (by decide) q2101 rfl dX7_draw_1 ?_
  refine lv_bipush (v := (10 : Int32)) hx hb dX7_draw_4 (by decide) ?_
  refine lv_ldcw hx hb hown (hts _ q2460) dX7_draw_6 ?_
  refine lv_aload_n hx hb dX7_draw_9 rfl (lv_at hl 0 rfl) ?_
  refine tget hx hb hts hown hE hI 1 (by decide) q2101 rfl dX7_draw_10 ?_
  refine lv_bipush (v := (10 : Int32)) hx hb dX7_draw_13 (by decide) ?_
  refine taldc hx hb hE hI 1 781 10 rfl (by decide) (by decide) dX7_draw_15 ?_
  refine lv_imul hx hb dX7_draw_16 ?_
  refine lv_sipush (v := (12345 : Int32)) hx hb dX7_draw_17 (by decide) ?_
  refine lv_iadd hx hb dX7_draw_20 ?_
  obtain ⟨t21, et21, hf⟩ := obd hf
  refine tast hx hb hE hI 1 781 0 rfl (fun _ => rfl) et21 dX7_draw_21 (fun H locs hI => ?_)
  refine lv_aload_n hx hb dX7_draw_22 rfl (lv_at hl 0 rfl) ?_
  refine tget hx hb hts hown hE hI 1 (by decide) q2101 rfl dX7_draw_23 ?_
  refine lv_bipush (v := (10 : Int32)) hx hb dX7_draw_26 (by decide) ?_
  refine taldc hx hb hE hI 1 781 10 rfl (by decide) (by decide) dX7_draw_28 ?_
  refine lv_bipush (v := (16 : Int32)) hx hb dX7_draw_29 (by decide) ?_
  refine lv_iushr (v := ((t21 0 10).toUInt32 >>> ((16 : Int32).toUInt32 &&& Int32.toUInt32 31)).toInt32) hx hb dX7_draw_31 rfl ?_
  refine lv_sipush (v := (32767 : Int32)) hx hb dX7_draw_32 (by decide) ?_
  refine lv_iand hx hb dX7_draw_35 ?_
  refine lv_iload_n hx hb dX7_draw_36 rfl (lv_at hl 1 rfl) ?_
  obtain ⟨_, en37, hf⟩ := obd hf
  refine lv_irem hx hb dX7_draw_37 (dnz_e en37).2 ?_
  have hf := Prod.mk.inj (Option.some.inj hf)
  rw [hf.1]
  exact hret H locs 38 ls (hf.2 ▸ hI) dX7_draw_38
theorem cwX7_draw {R : Room} {s : State} {args : Array Value} {fr lo : Nat} (hts : ∀ w ∈ lw_all, w.before args s = true) (hR : fr + 1 ≤ R.frames ∧ 8 + (2 + 11) + lo ≤ R.locals) : CallW R s args RX7 RX7 285 yX7_draw cX7_draw 2 (some .int) (ws_ yX7_draw cX7_draw 2 (some .int)) ({ frames := fr, cells := 0, slots := 0, locals := lo }) 0 0 1 :=
  cwV 1 hts (lw_V q2456 q2458 qs109 q143 q2459) rfl rfl rfl (by decide +kernel) hR

def X7_lesser (a0 : Int32) (a1 : Int32) : Option (Int32) :=
  if a1 ≤ a0 then
    some a1
  else
    some a0
set_option maxHeartbeats 4000000 in
theorem mX7_lesser (a0 : Int32) (a1 : Int32) (r : Int32) (hf : X7_lesser a0 a1 = some r) : SMi yX7_lesser cX7_lesser 2 (some .int) 1 40 [.int a0, .int a1] r := by
  refine SMi.of (by decide) (Nat.le_of_ble_eq_true rfl) ?_
  intro p l e s m args below meth c Q ls hx hb hml hown hts hret hl
  have hl : lv_has ls 2 [(0, .int a0), (1, .int a1)] := hl
  unfold X7_lesser at hf
  refine lv_iload_n hx hb dX7_lesser_0 rfl (lv_at hl 0 rfl) ?_
  refine lv_iload_n hx hb dX7_lesser_1 rfl (lv_at hl 1 rfl) ?_
  refine lv_icmp_ge (tgt := 9) hx hb dX7_lesser_2 (by decide) (fun hc => ?_) (fun hc => ?_)
  · replace hf := ipos hc hf
    refine lv_iload_n hx hb dX7_lesser_9 rfl (lv_at hl 1 rfl) ?_
    have hf := Option.some.inj hf
    rw [hf]
    exact hret 10 ls dX7_lesser_10
  · replace hf := ineg hc hf
    refine lv_iload_n hx hb dX7_lesser_5 rfl (lv_at hl 0 rfl) ?_
    refine lv_goto (tgt := 10) hx hb dX7_lesser_6 (by decide) ?_
    have hf := Option.some.inj hf
    rw [hf]
    exact hret 10 ls dX7_lesser_10
theorem cwX7_lesser {R : Room} {s : State} {args : Array Value} {fr lo : Nat} (hts : ∀ w ∈ lw_all, w.before args s = true) (hR : fr + 1 ≤ R.frames ∧ 8 + (2 + 11) + lo ≤ R.locals) : CallB R s args RX7 276 yX7_lesser cX7_lesser 2 (some .int) (ws_ yX7_lesser cX7_lesser 2 (some .int)) ({ frames := fr, cells := 0, slots := 0, locals := lo }) 0 0 2 ∧ (Cond.static yX7_lesser).before args s = true :=
  va_cwS 2 hts (lw_S q2461 q2462 q143 q2463) rfl rfl rfl (by decide +kernel) hR

def X7_logs_L5 (c1 : Int32) (c2 : Int32) (c3 : Int32) (w5 : Mm × Int32) : Option ((Mm × Int32) ⊕ (Mm)) :=
  if w5.2 < (4 : Int32) then
    some (.inr w5.1)
  else
    (ld 781 (w5.1 0) (((141 : Int32) + w5.2) - (4 : Int32))).bind fun x33 =>
    (sto 781 w5.1 0 ((141 : Int32) + w5.2) x33).bind fun t34 =>
    (some (w5.2 + (-1 : Int32))).bind fun v35 =>
    some (.inl (t34, v35))
def X7_logs (τ : Mm) (a1 : Int32) (a2 : Int32) (a3 : Int32) : Option (Mm) :=
  (loopO (X7_logs_L5 a1 a2 a3) FU (τ, (239 : Int32))).bind fun e5 =>
  (sto 781 e5 0 (141 : Int32) (e5 0 6)).bind fun t55 =>
  (sto 781 t55 0 (142 : Int32) a1).bind fun t64 =>
  (sto 781 t64 0 (143 : Int32) a2).bind fun t73 =>
  (sto 781 t73 0 (144 : Int32) a3).bind fun t82 =>
  (X7_lesser (60 : Int32) ((t82 0 9) + (1 : Int32))).bind fun x100 =>
  (sto 781 t82 0 (9 : Int32) x100).bind fun t103 =>
  some t103
set_option maxHeartbeats 4000000 in
theorem mX7_logs (τ : Mm) (a1 : Int32) (a2 : Int32) (a3 : Int32) (τ' : Mm) (hf : X7_logs τ a1 a2 a3 = some τ') : TMv yX7_logs cX7_logs 5 none 2 61 (fun aK => [.int a1, .int a2, .int a3]) τ τ' := by
  refine TMv.of (by decide) rfl (fun _ _ => Nat.le_of_ble_eq_true rfl) ?_
  intro p l e s m args below meth c D cI cZ o z aK aV Q ls hz hx hb hml hown hts hE hret hI hl
  obtain ⟨H, eH⟩ : ∃ H, H = s.heap := ⟨_, rfl⟩
  obtain ⟨locs, eL⟩ : ∃ L : List Loc, L = [] := ⟨_, rfl⟩
  rw [← eH, ← eL] at hI ⊢
  have hl : lv_has ls 5 [(0, .ref o), (1, .int a1), (2, .int a2), (3, .int a3)] := hl
  unfold X7_logs at hf
  refine lv_sipush (v := (239 : Int32)) hx hb dX7_logs_0 (by decide) ?_
  refine lv_istore (lv' := [(4, .int (239 : Int32)), (0, .ref o), (1, .int a1), (2, .int a2), (3, .int a3)]) hx hb dX7_logs_3 hl (by decide) rfl (fun ls hl => ?_)
  obtain ⟨e5, he5, hf⟩ := obd hf
  have hs5 : ∀ (c1 : Int32) (c2 : Int32) (c3 : Int32), ∀ (w5 : Mm × Int32) (o5 : (Mm × Int32) ⊕ (Mm)), X7_logs_L5 c1 c2 c3 w5 = some o5 → (∀ wx_, o5 = .inl wx_ → ∀ (H : Heap) (locs : List Loc) (ls : Array Slot), IT D cI cZ o s H locs wx_.1 → lv_has ls 5 [(0, .ref o), (1, .int c1), (2, .int c2), (3, .int c3), (4, .int wx_.2)] → W p l e ({ frames := 2, cells := 0, slots := 0, locals := 61 } : Room) s m args below meth c H locs 0 0 Q (F0 m 5 ls [])) → (∀ ex_, o5 = .inr ex_ → ∀ (H : Heap) (locs : List Loc) (ls : Array Slot), IT D cI cZ o s H locs ex_ → lv_has ls 5 [(0, .ref o), (1, .int c1), (2, .int c2), (3, .int c3)] → W p l e ({ frames := 2, cells := 0, slots := 0, locals := 61 } : Room) s m args below meth c H locs 0 0 Q (F0 m 41 ls [])) → ∀ (H : Heap) (locs : List Loc) (ls : Array Slot), IT D cI cZ o s H locs w5.1 → lv_has ls 5 [(0, .ref o), (1, .int c1), (2, .int c2), (3, .int c3), (4, .int w5.2)] → W p l e ({ frames := 2, cells := 0, slots := 0, locals := 61 } : Room) s m args below meth c H locs 0 0 Q (F0 m 5 ls []) := by
    intro c1 c2 c3 w5 o5 hf hk hq H locs ls hI hl
    unfold X7_logs_L5 at hf
    refine lv_iload hx hb dX7_logs_5 (lv_at hl 4 rfl) ?_
    refine lv_iconst (v := (4 : Int32)) hx hb dX7_logs_7 (by decide) ?_
    refine lv_icmp_lt (tgt := 41) hx hb dX7_logs_8 (by decide) (fun hc => ?_) (fun hc => ?_)
    · replace hf := ipos hc hf
      exact hq _ (Option.some.inj hf).symm H locs ls hI (lv_sub hl [0, 1, 2, 3] rfl)
    · replace hf := ineg hc hf
      refine lv_aload_n hx hb dX7_logs_11 rfl (lv_at hl 0 rfl) ?_
      refine tget hx hb hts hown hE hI 1 (by decide) q2101 rfl dX7_logs_12 ?_
      refine lv_sipush (v := (141 : Int32)) hx hb dX7_logs_15 (by decide) ?_
      refine lv_iload hx hb dX7_logs_18 (lv_at hl 4 rfl) ?_
      refine lv_iadd hx hb dX7_logs_20 ?_
      refine lv_aload_n hx hb dX7_logs_21 rfl (lv_at hl 0 rfl) ?_
      refine tget hx hb hts hown hE hI 1 (by decide) q2101 rfl dX7_logs_22 ?_
      refine lv_sipush (v := (141 : Int32)) hx hb dX7_logs_25 (by decide) ?_
      refine lv_iload hx hb dX7_logs_28 (lv_at hl 4 rfl) ?_
      refine lv_iadd hx hb dX7_logs_30 ?_
      refine lv_iconst (v := (4 : Int32)) hx hb dX7_logs_31 (by decide) ?_
      refine lv_isub hx hb dX7_logs_32 ?_
      obtain ⟨x33, ex33, hf⟩ := obd hf
      refine tald hx hb hE hI 1 781 rfl ex33 dX7_logs_33 ?_
      obtain ⟨t34, et34, hf⟩ := obd hf
      refine tast hx hb hE hI 1 781 0 rfl (fun _ => rfl) et34 dX7_logs_34 (fun H locs hI => ?_)
      obtain ⟨v35, ev35, hf⟩ := obd hf
      refine lv_iinc (v := v35) (lv' := [(4, .int v35), (0, .ref o), (1, .int c1), (2, .int c2), (3, .int c3)]) hx hb dX7_logs_35 hl (k := 4) rfl (iiE ev35 (by decide)) (by decide) rfl (fun ls hl => ?_)
      refine lv_goto (tgt := 5) hx hb dX7_logs_38 (by decide) ?_
      exact hk _ (Option.some.inj hf).symm H locs ls hI (lv_sub hl [1, 2, 3, 4, 0] rfl)
  refine loopO_W (Wat := fun w5 => ∀ (H : Heap) (locs : List Loc) (ls : Array Slot), IT D cI cZ o s H locs w5.1 → lv_has ls 5 [(0, .ref o), (1, .int a1), (2, .int a2), (3, .int a3), (4, .int w5.2)] → W p l e ({ frames := 2, cells := 0, slots := 0, locals := 61 } : Room) s m args below meth c H locs 0 0 Q (F0 m 5 ls [])) (Wex := fun ex_ => ∀ (H : Heap) (locs : List Loc) (ls : Array Slot), IT D cI cZ o s H locs ex_ → lv_has ls 5 [(0, .ref o), (1, .int a1), (2, .int a2), (3, .int a3)] → W p l e ({ frames := 2, cells := 0, slots := 0, locals := 61 } : Room) s m args below meth c H locs 0 0 Q (F0 m 41 ls [])) (hs5 a1 a2 a3) FU _ e5 he5 ?_ H locs ls hI (lv_sub hl [1, 2, 3, 4, 0] rfl)
  · skip
    intro H locs ls hI hl
    refine lv_aload_n hx hb dX7_logs_41 rfl (lv_at hl 0 rfl) ?_
    refine tget hx hb hts hown hE hI 1 (by decide) q2101 rfl dX7_logs_42 ?_
    refine lv_sipush (v := (141 : Int32)) hx hb dX7_logs_45 (by decide) ?_
    refine lv_aload_n hx hb dX7_logs_48 rfl (lv_at hl 0 rfl) ?_
    refine tget hx hb hts hown hE hI 1 (by decide) q2101 rfl dX7_logs_49 ?_
    refine lv_bipush (v := (6 : Int32)) hx hb dX7_logs_52 (by decide) ?_
    refine taldc hx hb hE hI 1 781 6 rfl (by decide) (by decide) dX7_logs_54 ?_
    obtain ⟨t55, et55, hf⟩ := obd hf
    refine tast hx hb hE hI 1 781 0 rfl (fun _ => rfl) et55 dX7_logs_55 (fun H locs hI => ?_)
    refine lv_aload_n hx hb dX7_logs_56 rfl (lv_at hl 0 rfl) ?_
    refine tget hx hb hts hown hE hI 1 (by decide) q2101 rfl dX7_logs_57 ?_
    refine lv_sipush (v := (142 : Int32)) hx hb dX7_logs_60 (by decide) ?_
    refine lv_iload_n hx hb dX7_logs_63 rfl (lv_at hl 1 rfl) ?_
    obtain ⟨t64, et64, hf⟩ := obd hf
    refine tast hx hb hE hI 1 781 0 rfl (fun _ => rfl) et64 dX7_logs_64 (fun H locs hI => ?_)
    refine lv_aload_n hx hb dX7_logs_65 rfl (lv_at hl 0 rfl) ?_
    refine tget hx hb hts hown hE hI 1 (by decide) q2101 rfl dX7_logs_66 ?_
    refine lv_sipush (v := (143 : Int32)) hx hb dX7_logs_69 (by decide) ?_
    refine lv_iload_n hx hb dX7_logs_72 rfl (lv_at hl 2 rfl) ?_
    obtain ⟨t73, et73, hf⟩ := obd hf
    refine tast hx hb hE hI 1 781 0 rfl (fun _ => rfl) et73 dX7_logs_73 (fun H locs hI => ?_)
    refine lv_aload_n hx hb dX7_logs_74 rfl (lv_at hl 0 rfl) ?_
    refine tget hx hb hts hown hE hI 1 (by decide) q2101 rfl dX7_logs_75 ?_
    refine lv_sipush (v := (144 : Int32)) hx hb dX7_logs_78 (by decide) ?_
    refine lv_iload_n hx hb dX7_logs_81 rfl (lv_at hl 3 rfl) ?_
    obtain ⟨t82, et82, hf⟩ := obd hf
    refine tast hx hb hE hI 1 781 0 rfl (fun _ => rfl) et82 dX7_logs_82 (fun H locs hI => ?_)
    refine lv_aload_n hx hb dX7_logs_83 rfl (lv_at hl 0 rfl) ?_
    refine tget hx hb hts hown hE hI 1 (by decide) q2101 rfl dX7_logs_84 ?_
    refine lv_bipush (v := (9 : Int32)) hx hb dX7_logs_87 (by decide) ?_
    refine lv_bipush (v := (60 : Int32)) hx hb dX7_logs_89 (by decide) ?_
    refine lv_aload_n hx hb dX7_logs_91 rfl (lv_at hl 0 rfl) ?_
    refine tget hx hb hts hown hE hI 1 (by decide) q2101 rfl dX7_logs_92 ?_
    refine lv_bipush (v := (9 : Int32)) hx hb dX7_logs_95 (by decide) ?_
    refine taldc hx hb hE hI 1 781 9 rfl (by decide) (by decide) dX7_logs_97 ?_
    refine lv_iconst (v := (1 : Int32)) hx hb dX7_logs_98 (by decide) ?_
    refine lv_iadd hx hb dX7_logs_99 ?_
    obtain ⟨x100, ex100, hf⟩ := obd hf
    refine tcallS (rest := [.int (9 : Int32), .ref (o + 1)]) hx hb hts hown hml hl.1 (mX7_lesser (60 : Int32) ((t82 0 9) + (1 : Int32)) _ ex100) (cwX7_lesser hts ⟨Nat.le_of_ble_eq_true rfl, Nat.le_of_ble_eq_true rfl⟩) ⟨Nat.le_of_ble_eq_true rfl, Nat.le_of_ble_eq_true rfl⟩ rfl rfl (lv_room (Nat.le_of_ble_eq_true rfl)) dX7_logs_100 ?_
    obtain ⟨t103, et103, hf⟩ := obd hf
    refine tast hx hb hE hI 1 781 0 rfl (fun _ => rfl) et103 dX7_logs_103 (fun H locs hI => ?_)
    exact hret H locs 104 ls ((Option.some.inj hf) ▸ hI) dX7_logs_104
theorem cwX7_logs {R : Room} {s : State} {args : Array Value} {fr lo : Nat} (hts : ∀ w ∈ lw_all, w.before args s = true) (hR : fr + 1 ≤ R.frames ∧ 8 + (5 + 11) + lo ≤ R.locals) : CallW R s args RX7 RX7 279 yX7_logs cX7_logs 5 (none) (ws_ yX7_logs cX7_logs 5 (none)) ({ frames := fr, cells := 0, slots := 0, locals := lo }) 0 0 3 :=
  cwV 3 hts (lw_V q2468 q2470 qs111 q143 q2471) rfl rfl rfl (by decide +kernel) hR

def X7_comesUp (τ : Mm) (a1 : Int32) : Option (Mm) :=
  (X7_lays τ a1 (10 : Int32) (1 : Int32)).bind fun t5 =>
  (X7_lays t5 a1 (9 : Int32) (t5 0 6)).bind fun t19 =>
  (X7_logs t19 a1 (0 : Int32) (0 : Int32)).bind fun t26 =>
  some t26
set_option maxHeartbeats 4000000 in
theorem mX7_comesUp (τ : Mm) (a1 : Int32) (τ' : Mm) (hf : X7_comesUp τ a1 = some τ') : TMv yX7_comesUp cX7_comesUp 2 none 3 85 (fun aK => [.int a1]) τ τ' := by
  refine TMv.of (by decide) rfl (fun _ _ => Nat.le_of_ble_eq_true rfl) ?_
  intro p l e s m args below meth c D cI cZ o z aK aV Q ls hz hx hb hml hown hts hE hret hI hl
  obtain ⟨H, eH⟩ : ∃ H, H = s.heap := ⟨_, rfl⟩
  obtain ⟨locs, eL⟩ : ∃ L : List Loc, L = [] := ⟨_, rfl⟩
  rw [← eH, ← eL] at hI ⊢
  have hl : lv_has ls 2 [(0, .ref o), (1, .int a1)] := hl
  unfold X7_comesUp at hf
  refine lv_aload_n hx hb dX7_comesUp_0 rfl (lv_at hl 0 rfl) ?_
  refine lv_iload_n hx hb dX7_comesUp_1 rfl (lv_at hl 1 rfl) ?_
  refine lv_bipush (v := (10 : Int32)) hx hb dX7_comesUp_2 (by decide) ?_
  refine lv_iconst (v := (1 : Int32)) hx hb dX7_comesUp_4 (by decide) ?_
  obtain ⟨t5, et5, hf⟩ := obd hf
  refine tcallV (rest := []) hx hb hts hown hE hz hI hml hl.1 (mX7_lays τ a1 (10 : Int32) (1 : Int32) _ et5) (cwX7_lays hts ⟨Nat.le_of_ble_eq_true rfl, Nat.le_of_ble_eq_true rfl⟩) ⟨Nat.le_of_ble_eq_true rfl, Nat.le_of_ble_eq_true rfl⟩ rfl rfl (lv_room (Nat.le_of_ble_eq_true rfl)) dX7_comesUp_5 (fun H locs hI => ?_)
  refine lv_aload_n hx hb dX7_comesUp_8 rfl (lv_at hl 0 rfl) ?_
  refine lv_iload_n hx hb dX7_comesUp_9 rfl (lv_at hl 1 rfl) ?_
  refine lv_bipush (v := (9 : Int32)) hx hb dX7_comesUp_10 (by decide) ?_
  refine lv_aload_n hx hb dX7_comesUp_12 rfl (lv_at hl 0 rfl) ?_
  refine tget hx hb hts hown hE hI 1 (by decide) q2101 rfl dX7_comesUp_13 ?_
  refine lv_bipush (v := (6 : Int32)) hx hb dX7_comesUp_16 (by decide) ?_
  refine taldc hx hb hE hI 1 781 6 rfl (by decide) (by decide) dX7_comesUp_18 ?_
  obtain ⟨t19, et19, hf⟩ := obd hf
  refine tcallV (rest := []) hx hb hts hown hE hz hI hml hl.1 (mX7_lays t5 a1 (9 : Int32) (t5 0 6) _ et19) (cwX7_lays hts ⟨Nat.le_of_ble_eq_true rfl, Nat.le_of_ble_eq_true rfl⟩) ⟨Nat.le_of_ble_eq_true rfl, Nat.le_of_ble_eq_true rfl⟩ rfl rfl (lv_room (Nat.le_of_ble_eq_true rfl)) dX7_comesUp_19 (fun H locs hI => ?_)
  refine lv_aload_n hx hb dX7_comesUp_22 rfl (lv_at hl 0 rfl) ?_
  refine lv_iload_n hx hb dX7_comesUp_23 rfl (lv_at hl 1 rfl) ?_
  refine lv_iconst (v := (0 : Int32)) hx hb dX7_comesUp_24 (by decide) ?_
  refine lv_iconst (v := (0 : Int32)) hx hb dX7_comesUp_25 (by decide) ?_
  obtain ⟨t26, et26, hf⟩ := obd hf
  refine tcallV (rest := []) hx hb hts hown hE hz hI hml hl.1 (mX7_logs t19 a1 (0 : Int32) (0 : Int32) _ et26) (cwX7_logs hts ⟨Nat.le_of_ble_eq_true rfl, Nat.le_of_ble_eq_true rfl⟩) ⟨Nat.le_of_ble_eq_true rfl, Nat.le_of_ble_eq_true rfl⟩ rfl rfl (lv_room (Nat.le_of_ble_eq_true rfl)) dX7_comesUp_26 (fun H locs hI => ?_)
  exact hret H locs 29 ls ((Option.some.inj hf) ▸ hI) dX7_comesUp_29
theorem cwX7_comesUp {R : Room} {s : State} {args : Array Value} {fr lo : Nat} (hts : ∀ w ∈ lw_all, w.before args s = true) (hR : fr + 1 ≤ R.frames ∧ 8 + (2 + 11) + lo ≤ R.locals) : CallW R s args RX7 RX7 291 yX7_comesUp cX7_comesUp 2 (none) (ws_ yX7_comesUp cX7_comesUp 2 (none)) ({ frames := fr, cells := 0, slots := 0, locals := lo }) 0 0 1 :=
  cwV 1 hts (lw_V q2464 q2466 qs110 q143 q2467) rfl rfl rfl (by decide +kernel) hR

def X7_pays_J114 (τ : Mm) (a1 : Int32) (x2 : Int32) (x3 : Int32) : Option (Mm) :=
  (X7_lays τ a1 (11 : Int32) (1 : Int32)).bind fun t119 =>
  if x3 = (0 : Int32) then
    (X7_logs t119 a1 (2 : Int32) x2).bind fun t134 =>
    some t134
  else
    (X7_logs t119 a1 (3 : Int32) x2).bind fun t134_6 =>
    some t134_6
def X7_pays_J35 (τ : Mm) (a1 : Int32) (x2 : Int32) (y0 : Int32) : Option (Mm) :=
  (X7_of τ a1 (1 : Int32)).bind fun x46 =>
  (ld 781 (τ 0) ((15 : Int32) + ((2 : Int32) * x46))).bind fun x52 =>
  (sto 781 τ 0 ((15 : Int32) + ((2 : Int32) * x46)) (x52 - x2)).bind fun t55 =>
  (X7_of t55 a1 (2 : Int32)).bind fun x62 =>
  (some ((15 : Int32) + ((2 : Int32) * x62))).bind fun v67 =>
  (ld 781 (t55 0) v67).bind fun x84 =>
  (X7_lesser (9999 : Int32) (x84 + x2)).bind fun x87 =>
  (sto 781 t55 0 v67 x87).bind fun t90 =>
  if y0 = (0 : Int32) then
    X7_pays_J114 t90 a1 x2 y0
  else
    (X7_of t90 a1 (1 : Int32)).bind fun x105 =>
    (sto 781 t90 0 (((15 : Int32) + ((2 : Int32) * x105)) + (1 : Int32)) (1 : Int32)).bind fun t113 =>
    X7_pays_J114 t113 a1 x2 y0
def X7_pays (τ : Mm) (a1 : Int32) : Option (Mm) :=
  (X7_of τ a1 (3 : Int32)).bind fun x3 =>
  (X7_of τ a1 (1 : Int32)).bind fun x10 =>
  (X7_coins τ x10).bind fun x13 =>
  (X7_lesser x3 x13).bind fun x16 =>
  (X7_of τ a1 (3 : Int32)).bind fun x24 =>
  if x24 ≤ x16 then
    X7_pays_J35 τ a1 x16 (0 : Int32)
  else
    X7_pays_J35 τ a1 x16 (1 : Int32)
set_option maxHeartbeats 4000000 in
theorem mX7_pays (τ : Mm) (a1 : Int32) (τ' : Mm) (hf : X7_pays τ a1 = some τ') : TMv yX7_pays cX7_pays 5 none 3 85 (fun aK => [.int a1]) τ τ' := by
  refine TMv.of (by decide) rfl (fun _ _ => Nat.le_of_ble_eq_true rfl) ?_
  intro p l e s m args below meth c D cI cZ o z aK aV Q ls hz hx hb hml hown hts hE hret hI hl
  obtain ⟨H, eH⟩ : ∃ H, H = s.heap := ⟨_, rfl⟩
  obtain ⟨locs, eL⟩ : ∃ L : List Loc, L = [] := ⟨_, rfl⟩
  rw [← eH, ← eL] at hI ⊢
  have hl : lv_has ls 5 [(0, .ref o), (1, .int a1)] := hl
  unfold X7_pays at hf
  have hJ114 : ∀ (τ : Mm) (x2 : Int32) (x3 : Int32) (H : Heap) (locs : List Loc) (ls : Array Slot), X7_pays_J114 τ a1 x2 x3 = some τ' → IT D cI cZ o s H locs τ → lv_has ls 5 [(0, .ref o), (1, .int a1), (2, .int x2), (3, .int x3)] → W p l e ({ frames := 3, cells := 0, slots := 0, locals := 85 } : Room) s m args below meth c H locs 0 0 Q (F0 m 114 ls []) := by
    intro τ x2 x3 H locs ls hf hI hl
    unfold X7_pays_J114 at hf
    refine lv_aload_n hx hb dX7_pays_114 rfl (lv_at hl 0 rfl) ?_
    refine lv_iload_n hx hb dX7_pays_115 rfl (lv_at hl 1 rfl) ?_
    refine lv_bipush (v := (11 : Int32)) hx hb dX7_pays_116 (by decide) ?_
    refine lv_iconst (v := (1 : Int32)) hx hb dX7_pays_118 (by decide) ?_
    obtain ⟨t119, et119, hf⟩ := obd hf
    refine tcallV (rest := []) hx hb hts hown hE hz hI hml hl.1 (mX7_lays τ a1 (11 : Int32) (1 : Int32) _ et119) (cwX7_lays hts ⟨Nat.le_of_ble_eq_true rfl, Nat.le_of_ble_eq_true rfl⟩) ⟨Nat.le_of_ble_eq_true rfl, Nat.le_of_ble_eq_true rfl⟩ rfl rfl (lv_room (Nat.le_of_ble_eq_true rfl)) dX7_pays_119 (fun H locs hI => ?_)
    refine lv_aload_n hx hb dX7_pays_122 rfl (lv_at hl 0 rfl) ?_
    refine lv_iload_n hx hb dX7_pays_123 rfl (lv_at hl 1 rfl) ?_
    refine lv_iload_n hx hb dX7_pays_124 rfl (lv_at hl 3 rfl) ?_
    refine lv_if_eq (tgt := 132) hx hb dX7_pays_125 (by decide) (fun hc => ?_) (fun hc => ?_)
    · replace hf := ipos hc hf
      refine lv_iconst (v := (2 : Int32)) hx hb dX7_pays_132 (by decide) ?_
      refine lv_iload_n hx hb dX7_pays_133 rfl (lv_at hl 2 rfl) ?_
      obtain ⟨t134, et134, hf⟩ := obd hf
      refine tcallV (rest := []) hx hb hts hown hE hz hI hml hl.1 (mX7_logs t119 a1 (2 : Int32) x2 _ et134) (cwX7_logs hts ⟨Nat.le_of_ble_eq_true rfl, Nat.le_of_ble_eq_true rfl⟩) ⟨Nat.le_of_ble_eq_true rfl, Nat.le_of_ble_eq_true rfl⟩ rfl rfl (lv_room (Nat.le_of_ble_eq_true rfl)) dX7_pays_134 (fun H locs hI => ?_)
      exact hret H locs 137 ls ((Option.some.inj hf) ▸ hI) dX7_pays_137
    · replace hf := ineg hc hf
      refine lv_iconst (v := (3 : Int32)) hx hb dX7_pays_128 (by decide) ?_
      refine lv_goto (tgt := 133) hx hb dX7_pays_129 (by decide) ?_
      refine lv_iload_n hx hb dX7_pays_133 rfl (lv_at hl 2 rfl) ?_
      obtain ⟨t134_6, et134_6, hf⟩ := obd hf
      refine tcallV (rest := []) hx hb hts hown hE hz hI hml hl.1 (mX7_logs t119 a1 (3 : Int32) x2 _ et134_6) (cwX7_logs hts ⟨Nat.le_of_ble_eq_true rfl, Nat.le_of_ble_eq_true rfl⟩) ⟨Nat.le_of_ble_eq_true rfl, Nat.le_of_ble_eq_true rfl⟩ rfl rfl (lv_room (Nat.le_of_ble_eq_true rfl)) dX7_pays_134 (fun H locs hI => ?_)
      exact hret H locs 137 ls ((Option.some.inj hf) ▸ hI) dX7_pays_137
  have hJ35 : ∀ (τ : Mm) (x2 : Int32) (y0 : Int32) (H : Heap) (locs : List Loc) (ls : Array Slot), X7_pays_J35 τ a1 x2 y0 = some τ' → IT D cI cZ o s H locs τ → lv_has ls 5 [(0, .ref o), (1, .int a1), (2, .int x2)] → W p l e ({ frames := 3, cells := 0, slots := 0, locals := 85 } : Room) s m args below meth c H locs 0 0 Q (F0 m 35 ls [.int y0]) := by
    intro τ x2 y0 H locs ls hf hI hl
    unfold X7_pays_J35 at hf
    refine lv_istore_n (lv' := [(3, .int y0), (0, .ref o), (1, .int a1), (2, .int x2)]) hx hb dX7_pays_35 rfl hl (by decide) rfl (fun ls hl => ?_)
    refine lv_aload_n hx hb dX7_pays_36 rfl (lv_at hl 1 rfl) ?_
    refine tget hx hb hts hown hE hI 1 (by decide) q2101 rfl dX7_pays_37 ?_
    refine lv_bipush (v := (15 : Int32)) hx hb dX7_pays_40 (by decide) ?_
    refine lv_iconst (v := (2 : Int32)) hx hb dX7_pays_42 (by decide) ?_
    refine lv_aload_n hx hb dX7_pays_43 rfl (lv_at hl 1 rfl) ?_
    refine lv_iload_n hx hb dX7_pays_44 rfl (lv_at hl 2 rfl) ?_
    refine lv_iconst (v := (1 : Int32)) hx hb dX7_pays_45 (by decide) ?_
    obtain ⟨x46, ex46, hf⟩ := obd hf
    refine tcallI (rest := [.int (2 : Int32), .int (15 : Int32), .ref (o + 1)]) hx hb hts hown hE hz hI hml hl.1 (mX7_of τ a1 (1 : Int32) _ ex46) (cwX7_of hts ⟨Nat.le_of_ble_eq_true rfl, Nat.le_of_ble_eq_true rfl⟩) ⟨Nat.le_of_ble_eq_true rfl, Nat.le_of_ble_eq_true rfl⟩ rfl rfl (lv_room (Nat.le_of_ble_eq_true rfl)) dX7_pays_46 (fun H locs hI => ?_)
    refine lv_imul hx hb dX7_pays_49 ?_
    refine lv_iadd hx hb dX7_pays_50 ?_
    refine lv_dup2_11 hx hb dX7_pays_51 rfl rfl ?_
    obtain ⟨x52, ex52, hf⟩ := obd hf
    refine tald hx hb hE hI 1 781 rfl ex52 dX7_pays_52 ?_
    refine lv_iload_n hx hb dX7_pays_53 rfl (lv_at hl 3 rfl) ?_
    refine lv_isub hx hb dX7_pays_54 ?_
    obtain ⟨t55, et55, hf⟩ := obd hf
    refine tast hx hb hE hI 1 781 0 rfl (fun _ => rfl) et55 dX7_pays_55 (fun H locs hI => ?_)
    refine lv_bipush (v := (15 : Int32)) hx hb dX7_pays_56 (by decide) ?_
    refine lv_iconst (v := (2 : Int32)) hx hb dX7_pays_58 (by decide) ?_
    refine lv_aload_n hx hb dX7_pays_59 rfl (lv_at hl 1 rfl) ?_
    refine lv_iload_n hx hb dX7_pays_60 rfl (lv_at hl 2 rfl) ?_
    refine lv_iconst (v := (2 : Int32)) hx hb dX7_pays_61 (by decide) ?_
    obtain ⟨x62, ex62, hf⟩ := obd hf
    refine tcallI (rest := [.int (2 : Int32), .int (15 : Int32)]) hx hb hts hown hE hz hI hml hl.1 (mX7_of t55 a1 (2 : Int32) _ ex62) (cwX7_of hts ⟨Nat.le_of_ble_eq_true rfl, Nat.le_of_ble_eq_true rfl⟩) ⟨Nat.le_of_ble_eq_true rfl, Nat.le_of_ble_eq_true rfl⟩ rfl rfl (lv_room (Nat.le_of_ble_eq_true rfl)) dX7_pays_62 (fun H locs hI => ?_)
    refine lv_imul hx hb dX7_pays_65 ?_
    refine lv_iadd hx hb dX7_pays_66 ?_
    obtain ⟨v67, ev67, hf⟩ := obd hf
    refine nmI ev67 ?_
    refine lv_istore (lv' := [(4, .int v67), (3, .int y0), (0, .ref o), (1, .int a1), (2, .int x2)]) hx hb dX7_pays_67 hl (by decide) rfl (fun ls hl => ?_)
    refine lv_aload_n hx hb dX7_pays_69 rfl (lv_at hl 2 rfl) ?_
    refine tget hx hb hts hown hE hI 1 (by decide) q2101 rfl dX7_pays_70 ?_
    refine lv_iload hx hb dX7_pays_73 (lv_at hl 0 rfl) ?_
    refine lv_sipush (v := (9999 : Int32)) hx hb dX7_pays_75 (by decide) ?_
    refine lv_aload_n hx hb dX7_pays_78 rfl (lv_at hl 2 rfl) ?_
    refine tget hx hb hts hown hE hI 1 (by decide) q2101 rfl dX7_pays_79 ?_
    refine lv_iload hx hb dX7_pays_82 (lv_at hl 0 rfl) ?_
    obtain ⟨x84, ex84, hf⟩ := obd hf
    refine tald hx hb hE hI 1 781 rfl ex84 dX7_pays_84 ?_
    refine lv_iload_n hx hb dX7_pays_85 rfl (lv_at hl 4 rfl) ?_
    refine lv_iadd hx hb dX7_pays_86 ?_
    obtain ⟨x87, ex87, hf⟩ := obd hf
    refine tcallS (rest := [.int v67, .ref (o + 1)]) hx hb hts hown hml hl.1 (mX7_lesser (9999 : Int32) (x84 + x2) _ ex87) (cwX7_lesser hts ⟨Nat.le_of_ble_eq_true rfl, Nat.le_of_ble_eq_true rfl⟩) ⟨Nat.le_of_ble_eq_true rfl, Nat.le_of_ble_eq_true rfl⟩ rfl rfl (lv_room (Nat.le_of_ble_eq_true rfl)) dX7_pays_87 ?_
    obtain ⟨t90, et90, hf⟩ := obd hf
    refine tast hx hb hE hI 1 781 0 rfl (fun _ => rfl) et90 dX7_pays_90 (fun H locs hI => ?_)
    refine lv_iload_n hx hb dX7_pays_91 rfl (lv_at hl 1 rfl) ?_
    refine lv_if_eq (tgt := 114) hx hb dX7_pays_92 (by decide) (fun hc => ?_) (fun hc => ?_)
    · replace hf := ipos hc hf
      exact hJ114 t90 x2 y0 H locs ls hf hI  (lv_sub hl [2, 3, 4, 1] rfl)
    · replace hf := ineg hc hf
      refine lv_aload_n hx hb dX7_pays_95 rfl (lv_at hl 2 rfl) ?_
      refine tget hx hb hts hown hE hI 1 (by decide) q2101 rfl dX7_pays_96 ?_
      refine lv_bipush (v := (15 : Int32)) hx hb dX7_pays_99 (by decide) ?_
      refine lv_iconst (v := (2 : Int32)) hx hb dX7_pays_101 (by decide) ?_
      refine lv_aload_n hx hb dX7_pays_102 rfl (lv_at hl 2 rfl) ?_
      refine lv_iload_n hx hb dX7_pays_103 rfl (lv_at hl 3 rfl) ?_
      refine lv_iconst (v := (1 : Int32)) hx hb dX7_pays_104 (by decide) ?_
      obtain ⟨x105, ex105, hf⟩ := obd hf
      refine tcallI (rest := [.int (2 : Int32), .int (15 : Int32), .ref (o + 1)]) hx hb hts hown hE hz hI hml hl.1 (mX7_of t90 a1 (1 : Int32) _ ex105) (cwX7_of hts ⟨Nat.le_of_ble_eq_true rfl, Nat.le_of_ble_eq_true rfl⟩) ⟨Nat.le_of_ble_eq_true rfl, Nat.le_of_ble_eq_true rfl⟩ rfl rfl (lv_room (Nat.le_of_ble_eq_true rfl)) dX7_pays_105 (fun H locs hI => ?_)
      refine lv_imul hx hb dX7_pays_108 ?_
      refine lv_iadd hx hb dX7_pays_109 ?_
      refine lv_iconst (v := (1 : Int32)) hx hb dX7_pays_110 (by decide) ?_
      refine lv_iadd hx hb dX7_pays_111 ?_
      refine lv_iconst (v := (1 : Int32)) hx hb dX7_pays_112 (by decide) ?_
      obtain ⟨t113, et113, hf⟩ := obd hf
      refine tast hx hb hE hI 1 781 0 rfl (fun _ => rfl) et113 dX7_pays_113 (fun H locs hI => ?_)
      exact hJ114 t113 x2 y0 H locs ls hf hI  (lv_sub hl [2, 3, 4, 1] rfl)
  refine lv_aload_n hx hb dX7_pays_0 rfl (lv_at hl 0 rfl) ?_
  refine lv_iload_n hx hb dX7_pays_1 rfl (lv_at hl 1 rfl) ?_
  refine lv_iconst (v := (3 : Int32)) hx hb dX7_pays_2 (by decide) ?_
  obtain ⟨x3, ex3, hf⟩ := obd hf
  refine tcallI (rest := []) hx hb hts hown hE hz hI hml hl.1 (mX7_of τ a1 (3 : Int32) _ ex3) (cwX7_of hts ⟨Nat.le_of_ble_eq_true rfl, Nat.le_of_ble_eq_true rfl⟩) ⟨Nat.le_of_ble_eq_true rfl, Nat.le_of_ble_eq_true rfl⟩ rfl rfl (lv_room (Nat.le_of_ble_eq_true rfl)) dX7_pays_3 (fun H locs hI => ?_)
  refine lv_aload_n hx hb dX7_pays_6 rfl (lv_at hl 0 rfl) ?_
  refine lv_aload_n hx hb dX7_pays_7 rfl (lv_at hl 0 rfl) ?_
  refine lv_iload_n hx hb dX7_pays_8 rfl (lv_at hl 1 rfl) ?_
  refine lv_iconst (v := (1 : Int32)) hx hb dX7_pays_9 (by decide) ?_
  obtain ⟨x10, ex10, hf⟩ := obd hf
  refine tcallI (rest := [.ref o, .int x3]) hx hb hts hown hE hz hI hml hl.1 (mX7_of τ a1 (1 : Int32) _ ex10) (cwX7_of hts ⟨Nat.le_of_ble_eq_true rfl, Nat.le_of_ble_eq_true rfl⟩) ⟨Nat.le_of_ble_eq_true rfl, Nat.le_of_ble_eq_true rfl⟩ rfl rfl (lv_room (Nat.le_of_ble_eq_true rfl)) dX7_pays_10 (fun H locs hI => ?_)
  obtain ⟨x13, ex13, hf⟩ := obd hf
  refine tcallI (rest := [.int x3]) hx hb hts hown hE hz hI hml hl.1 (mX7_coins τ x10 _ ex13) (cwX7_coins hts ⟨Nat.le_of_ble_eq_true rfl, Nat.le_of_ble_eq_true rfl⟩) ⟨Nat.le_of_ble_eq_true rfl, Nat.le_of_ble_eq_true rfl⟩ rfl rfl (lv_room (Nat.le_of_ble_eq_true rfl)) dX7_pays_13 (fun H locs hI => ?_)
  obtain ⟨x16, ex16, hf⟩ := obd hf
  refine tcallS (rest := []) hx hb hts hown hml hl.1 (mX7_lesser x3 x13 _ ex16) (cwX7_lesser hts ⟨Nat.le_of_ble_eq_true rfl, Nat.le_of_ble_eq_true rfl⟩) ⟨Nat.le_of_ble_eq_true rfl, Nat.le_of_ble_eq_true rfl⟩ rfl rfl (lv_room (Nat.le_of_ble_eq_true rfl)) dX7_pays_16 ?_
  refine lv_istore_n (lv' := [(2, .int x16), (0, .ref o), (1, .int a1)]) hx hb dX7_pays_19 rfl hl (by decide) rfl (fun ls hl => ?_)
  refine lv_iload_n hx hb dX7_pays_20 rfl (lv_at hl 0 rfl) ?_
  refine lv_aload_n hx hb dX7_pays_21 rfl (lv_at hl 1 rfl) ?_
  refine lv_iload_n hx hb dX7_pays_22 rfl (lv_at hl 2 rfl) ?_
  refine lv_iconst (v := (3 : Int32)) hx hb dX7_pays_23 (by decide) ?_
  obtain ⟨x24, ex24, hf⟩ := obd hf
  refine tcallI (rest := [.int x16]) hx hb hts hown hE hz hI hml hl.1 (mX7_of τ a1 (3 : Int32) _ ex24) (cwX7_of hts ⟨Nat.le_of_ble_eq_true rfl, Nat.le_of_ble_eq_true rfl⟩) ⟨Nat.le_of_ble_eq_true rfl, Nat.le_of_ble_eq_true rfl⟩ rfl rfl (lv_room (Nat.le_of_ble_eq_true rfl)) dX7_pays_24 (fun H locs hI => ?_)
  refine lv_icmp_ge (tgt := 34) hx hb dX7_pays_27 (by decide) (fun hc => ?_) (fun hc => ?_)
  · replace hf := ipos hc hf
    refine lv_iconst (v := (0 : Int32)) hx hb dX7_pays_34 (by decide) ?_
    exact hJ35 τ x16 (0 : Int32) H locs ls hf hI  (lv_sub hl [1, 2, 0] rfl)
  · replace hf := ineg hc hf
    refine lv_iconst (v := (1 : Int32)) hx hb dX7_pays_30 (by decide) ?_
    refine lv_goto (tgt := 35) hx hb dX7_pays_31 (by decide) ?_
    exact hJ35 τ x16 (1 : Int32) H locs ls hf hI  (lv_sub hl [1, 2, 0] rfl)
theorem cwX7_pays {R : Room} {s : State} {args : Array Value} {fr lo : Nat} (hts : ∀ w ∈ lw_all, w.before args s = true) (hR : fr + 1 ≤ R.frames ∧ 8 + (5 + 11) + lo ≤ R.locals) : CallW R s args RX7 RX7 297 yX7_pays cX7_pays 5 (none) (ws_ yX7_pays cX7_pays 5 (none)) ({ frames := fr, cells := 0, slots := 0, locals := lo }) 0 0 1 :=
  cwV 1 hts (lw_V q2472 q2474 qs112 q143 q2475) rfl rfl rfl (by decide +kernel) hR

def X7_passes_L42 (c2 : Int32) (c3 : Int32) (w42 : Mm × Int32) : Option ((Mm × Int32) ⊕ (Mm)) :=
  if (w42.1 0 5) ≤ w42.2 then
    some (.inr w42.1)
  else
    (X7_isOf c3 w42.2).bind fun x56 =>
    if x56 = (0 : Int32) then
      (some (w42.2 + (1 : Int32))).bind fun v129_16 =>
      some (.inl (w42.1, v129_16))
    else
      (X7_asks w42.1 w42.2).bind fun t68 =>
      (X7_of t68 w42.2 (8 : Int32)).bind fun x84 =>
      (X7_lesser (999 : Int32) ((x84 + (t68 10 17)) + c2)).bind fun x94 =>
      (X7_lays t68 w42.2 (8 : Int32) x94).bind fun t97 =>
      (X7_of t97 w42.2 (8 : Int32)).bind fun x105 =>
      (X7_of t97 w42.2 (0 : Int32)).bind fun x113 =>
      (X7_ofInk t97 x113 (0 : Int32)).bind fun x117 =>
      if x105 < x117 then
        (some (w42.2 + (1 : Int32))).bind fun v129 =>
        some (.inl (t97, v129))
      else
        (X7_comesUp t97 w42.2).bind fun t126 =>
        (some (w42.2 + (1 : Int32))).bind fun v129_15 =>
        some (.inl (t126, v129_15))
def X7_passes_L138 (c3 : Int32) (w138 : Mm × Int32) : Option ((Mm × Int32) ⊕ (Mm)) :=
  if (w138.1 0 5) ≤ w138.2 then
    some (.inr w138.1)
  else
    (X7_of w138.1 w138.2 (0 : Int32)).bind fun x154 =>
    (X7_ofInk w138.1 x154 (1 : Int32)).bind fun x158 =>
    (X7_isOf c3 w138.2).bind fun x166 =>
    if x166 = (0 : Int32) then
      (X7_of w138.1 w138.2 (10 : Int32)).bind fun x177 =>
      if x177 = (1 : Int32) then
        if x158 = (0 : Int32) then
          (some (w138.2 + (1 : Int32))).bind fun v230_23 =>
          some (.inl (w138.1, v230_23))
        else
          (X7_of w138.1 w138.2 (9 : Int32)).bind fun x201 =>
          if x158 ≤ ((w138.1 0 6) - x201) then
            (X7_lays w138.1 w138.2 (10 : Int32) (2 : Int32)).bind fun t219 =>
            (X7_logs t219 w138.2 (1 : Int32) (0 : Int32)).bind fun t227 =>
            (some (w138.2 + (1 : Int32))).bind fun v230_29 =>
            some (.inl (t227, v230_29))
          else
            (some (w138.2 + (1 : Int32))).bind fun v230_30 =>
            some (.inl (w138.1, v230_30))
      else
        (some (w138.2 + (1 : Int32))).bind fun v230_22 =>
        some (.inl (w138.1, v230_22))
    else
      (some (w138.2 + (1 : Int32))).bind fun v230 =>
      some (.inl (w138.1, v230))
def X7_passes_L242 (w242 : Mm × Int32 × Int32) : Option ((Mm × Int32 × Int32) ⊕ (Mm × Int32)) :=
  if (w242.1 0 5) ≤ w242.2.2 then
    some (.inr (w242.1, w242.2.1))
  else
    (X7_isValidNow w242.1 w242.2.2).bind fun x256 =>
    if x256 = (0 : Int32) then
      (some (w242.2.2 + (1 : Int32))).bind fun v312 =>
      some (.inl (w242.1, w242.2.1, v312))
    else
      (X7_of w242.1 w242.2.2 (11 : Int32)).bind fun x267 =>
      if x267 = (1 : Int32) then
        (some (w242.2.2 + (1 : Int32))).bind fun v312_34 =>
        some (.inl (w242.1, w242.2.1, v312_34))
      else
        (X7_of w242.1 w242.2.2 (9 : Int32)).bind fun x286 =>
        (X7_of w242.1 w242.2.2 (4 : Int32)).bind fun x294 =>
        if x294 ≤ ((w242.1 0 6) - x286) then
          (X7_pays w242.1 w242.2.2).bind fun t306 =>
          (some (w242.2.1 + (1 : Int32))).bind fun v309 =>
          (some (w242.2.2 + (1 : Int32))).bind fun v312_40 =>
          some (.inl (t306, v309, v312_40))
        else
          (some (w242.2.2 + (1 : Int32))).bind fun v312_41 =>
          some (.inl (w242.1, w242.2.1, v312_41))
def X7_passes_J32 (τ : Mm) (y0 : Int32) : Option (Int32 × Mm) :=
  (X7_inState τ (0 : Int32)).bind fun x35 =>
  (loopO (X7_passes_L42 y0 x35) FU (τ, (0 : Int32))).bind fun e42 =>
  (loopO (X7_passes_L138 x35) FU (e42, (0 : Int32))).bind fun e138 =>
  (loopO (X7_passes_L242) FU (e138, (0 : Int32), (0 : Int32))).bind fun e242 =>
  (X7_lesser (9999 : Int32) ((e242.1 0 6) + (1 : Int32))).bind fun x336 =>
  (sto 781 e242.1 0 (6 : Int32) x336).bind fun t339 =>
  some (e242.2, t339)
def X7_passes (τ : Mm) (a1 : Int32) : Option (Int32 × Mm) :=
  if a1 = (0 : Int32) then
    X7_passes_J32 τ (τ 10 19)
  else
    (X7_draw τ (100 : Int32)).bind fun x7 =>
    if (x7.2 0 8) ≤ x7.1 then
      X7_passes_J32 x7.2 (0 : Int32)
    else
      X7_passes_J32 x7.2 (1 : Int32)
set_option maxHeartbeats 4000000 in
theorem mX7_passes (τ : Mm) (a1 : Int32) (r : Int32) (τ' : Mm) (hf : X7_passes τ a1 = some (r, τ')) : TMi yX7_passes cX7_passes 6 (some .int) 693 20070 (fun aK => [.int a1]) r τ τ' := by
  refine TMi.of (by decide) rfl (fun _ _ => Nat.le_of_ble_eq_true rfl) ?_
  intro p l e s m args below meth c D cI cZ o z aK aV Q ls hz hx hb hml hown hts hE hret hI hl
  obtain ⟨H, eH⟩ : ∃ H, H = s.heap := ⟨_, rfl⟩
  obtain ⟨locs, eL⟩ : ∃ L : List Loc, L = [] := ⟨_, rfl⟩
  rw [← eH, ← eL] at hI ⊢
  have hl : lv_has ls 6 [(0, .ref o), (1, .int a1)] := hl
  unfold X7_passes at hf
  have hJ32 : ∀ (τ : Mm) (y0 : Int32) (H : Heap) (locs : List Loc) (ls : Array Slot), X7_passes_J32 τ y0 = some (r, τ') → IT D cI cZ o s H locs τ → lv_has ls 6 [(0, .ref o)] → W p l e ({ frames := 693, cells := 0, slots := 0, locals := 20070 } : Room) s m args below meth c H locs 0 0 Q (F0 m 32 ls [.int y0]) := by
    intro τ y0 H locs ls hf hI hl
    unfold X7_passes_J32 at hf
    refine lv_istore_n (lv' := [(2, .int y0), (0, .ref o)]) hx hb dX7_passes_32 rfl hl (by decide) rfl (fun ls hl => ?_)
    refine lv_aload_n hx hb dX7_passes_33 rfl (lv_at hl 1 rfl) ?_
    refine lv_iconst (v := (0 : Int32)) hx hb dX7_passes_34 (by decide) ?_
    obtain ⟨x35, ex35, hf⟩ := obd hf
    refine tcallI (rest := []) hx hb hts hown hE hz hI hml hl.1 (mX7_inState τ (0 : Int32) _ ex35) (cwX7_inState hts ⟨Nat.le_of_ble_eq_true rfl, Nat.le_of_ble_eq_true rfl⟩) ⟨Nat.le_of_ble_eq_true rfl, Nat.le_of_ble_eq_true rfl⟩ rfl rfl (lv_room (Nat.le_of_ble_eq_true rfl)) dX7_passes_35 (fun H locs hI => ?_)
    refine lv_istore_n (lv' := [(3, .int x35), (2, .int y0), (0, .ref o)]) hx hb dX7_passes_38 rfl hl (by decide) rfl (fun ls hl => ?_)
    refine lv_iconst (v := (0 : Int32)) hx hb dX7_passes_39 (by decide) ?_
    refine lv_istore (lv' := [(4, .int (0 : Int32)), (3, .int x35), (2, .int y0), (0, .ref o)]) hx hb dX7_passes_40 hl (by decide) rfl (fun ls hl => ?_)
    obtain ⟨e42, he42, hf⟩ := obd hf
    have hs42 : ∀ (c2 : Int32) (c3 : Int32), ∀ (w42 : Mm × Int32) (o42 : (Mm × Int32) ⊕ (Mm)), X7_passes_L42 c2 c3 w42 = some o42 → (∀ wx_, o42 = .inl wx_ → ∀ (H : Heap) (locs : List Loc) (ls : Array Slot), IT D cI cZ o s H locs wx_.1 → lv_has ls 6 [(0, .ref o), (2, .int c2), (3, .int c3), (4, .int wx_.2)] → W p l e ({ frames := 693, cells := 0, slots := 0, locals := 20070 } : Room) s m args below meth c H locs 0 0 Q (F0 m 42 ls [])) → (∀ ex_, o42 = .inr ex_ → ∀ (H : Heap) (locs : List Loc) (ls : Array Slot), IT D cI cZ o s H locs ex_ → lv_has ls 6 [(0, .ref o), (3, .int c3)] → W p l e ({ frames := 693, cells := 0, slots := 0, locals := 20070 } : Room) s m args below meth c H locs 0 0 Q (F0 m 135 ls [])) → ∀ (H : Heap) (locs : List Loc) (ls : Array Slot), IT D cI cZ o s H locs w42.1 → lv_has ls 6 [(0, .ref o), (2, .int c2), (3, .int c3), (4, .int w42.2)] → W p l e ({ frames := 693, cells := 0, slots := 0, locals := 20070 } : Room) s m args below meth c H locs 0 0 Q (F0 m 42 ls []) := by
      intro c2 c3 w42 o42 hf hk hq H locs ls hI hl
      unfold X7_passes_L42 at hf
      refine lv_iload hx hb dX7_passes_42 (lv_at hl 3 rfl) ?_
      refine lv_aload_n hx hb dX7_passes_44 rfl (lv_at hl 0 rfl) ?_
      refine tget hx hb hts hown hE hI 1 (by decide) q2101 rfl dX7_passes_45 ?_
      refine lv_iconst (v := (5 : Int32)) hx hb dX7_passes_48 (by decide) ?_
      refine taldc hx hb hE hI 1 781 5 rfl (by decide) (by decide) dX7_passes_49 ?_
      refine lv_icmp_ge (tgt := 135) hx hb dX7_passes_50 (by decide) (fun hc => ?_) (fun hc => ?_)
      · replace hf := ipos hc hf
        exact hq _ (Option.some.inj hf).symm H locs ls hI (lv_sub hl [0, 2] rfl)
      · replace hf := ineg hc hf
        refine lv_iload_n hx hb dX7_passes_53 rfl (lv_at hl 2 rfl) ?_
        refine lv_iload hx hb dX7_passes_54 (lv_at hl 3 rfl) ?_
        obtain ⟨x56, ex56, hf⟩ := obd hf
        refine tcallS (rest := []) hx hb hts hown hml hl.1 (mX7_isOf c3 w42.2 _ ex56) (cwX7_isOf hts ⟨Nat.le_of_ble_eq_true rfl, Nat.le_of_ble_eq_true rfl⟩) ⟨Nat.le_of_ble_eq_true rfl, Nat.le_of_ble_eq_true rfl⟩ rfl rfl (lv_room (Nat.le_of_ble_eq_true rfl)) dX7_passes_56 ?_
        refine lv_if_ne (tgt := 65) hx hb dX7_passes_59 (by decide) (fun hc => ?_) (fun hc => ?_)
        · replace hf := ineg hc hf
          refine lv_aload_n hx hb dX7_passes_65 rfl (lv_at hl 0 rfl) ?_
          refine lv_iload hx hb dX7_passes_66 (lv_at hl 3 rfl) ?_
          obtain ⟨t68, et68, hf⟩ := obd hf
          refine tcallV (rest := []) hx hb hts hown hE hz hI hml hl.1 (mX7_asks w42.1 w42.2 _ et68) (cwX7_asks hts ⟨Nat.le_of_ble_eq_true rfl, Nat.le_of_ble_eq_true rfl⟩) ⟨Nat.le_of_ble_eq_true rfl, Nat.le_of_ble_eq_true rfl⟩ rfl rfl (lv_room (Nat.le_of_ble_eq_true rfl)) dX7_passes_68 (fun H locs hI => ?_)
          refine lv_aload_n hx hb dX7_passes_71 rfl (lv_at hl 0 rfl) ?_
          refine lv_iload hx hb dX7_passes_72 (lv_at hl 3 rfl) ?_
          refine lv_bipush (v := (8 : Int32)) hx hb dX7_passes_74 (by decide) ?_
          refine lv_sipush (v := (999 : Int32)) hx hb dX7_passes_76 (by decide) ?_
          refine lv_aload_n hx hb dX7_passes_79 rfl (lv_at hl 0 rfl) ?_
          refine lv_iload hx hb dX7_passes_80 (lv_at hl 3 rfl) ?_
          refine lv_bipush (v := (8 : Int32)) hx hb dX7_passes_82 (by decide) ?_
          obtain ⟨x84, ex84, hf⟩ := obd hf
          refine tcallI (rest := [.int (999 : Int32), .int (8 : Int32), .int w42.2, .ref o]) hx hb hts hown hE hz hI hml hl.1 (mX7_of t68 w42.2 (8 : Int32) _ ex84) (cwX7_of hts ⟨Nat.le_of_ble_eq_true rfl, Nat.le_of_ble_eq_true rfl⟩) ⟨Nat.le_of_ble_eq_true rfl, Nat.le_of_ble_eq_true rfl⟩ rfl rfl (lv_room (Nat.le_of_ble_eq_true rfl)) dX7_passes_84 (fun H locs hI => ?_)
          refine lv_aload_n hx hb dX7_passes_87 rfl (lv_at hl 0 rfl) ?_
          refine tget hx hb hts hown hE hI 17 (by decide) q2117 rfl dX7_passes_88 ?_
          refine lv_iadd hx hb dX7_passes_91 ?_
          refine lv_iload_n hx hb dX7_passes_92 rfl (lv_at hl 1 rfl) ?_
          refine lv_iadd hx hb dX7_passes_93 ?_
          obtain ⟨x94, ex94, hf⟩ := obd hf
          refine tcallS (rest := [.int (8 : Int32), .int w42.2, .ref o]) hx hb hts hown hml hl.1 (mX7_lesser (999 : Int32) ((x84 + (t68 10 17)) + c2) _ ex94) (cwX7_lesser hts ⟨Nat.le_of_ble_eq_true rfl, Nat.le_of_ble_eq_true rfl⟩) ⟨Nat.le_of_ble_eq_true rfl, Nat.le_of_ble_eq_true rfl⟩ rfl rfl (lv_room (Nat.le_of_ble_eq_true rfl)) dX7_passes_94 ?_
          obtain ⟨t97, et97, hf⟩ := obd hf
          refine tcallV (rest := []) hx hb hts hown hE hz hI hml hl.1 (mX7_lays t68 w42.2 (8 : Int32) x94 _ et97) (cwX7_lays hts ⟨Nat.le_of_ble_eq_true rfl, Nat.le_of_ble_eq_true rfl⟩) ⟨Nat.le_of_ble_eq_true rfl, Nat.le_of_ble_eq_true rfl⟩ rfl rfl (lv_room (Nat.le_of_ble_eq_true rfl)) dX7_passes_97 (fun H locs hI => ?_)
          refine lv_aload_n hx hb dX7_passes_100 rfl (lv_at hl 0 rfl) ?_
          refine lv_iload hx hb dX7_passes_101 (lv_at hl 3 rfl) ?_
          refine lv_bipush (v := (8 : Int32)) hx hb dX7_passes_103 (by decide) ?_
          obtain ⟨x105, ex105, hf⟩ := obd hf
          refine tcallI (rest := []) hx hb hts hown hE hz hI hml hl.1 (mX7_of t97 w42.2 (8 : Int32) _ ex105) (cwX7_of hts ⟨Nat.le_of_ble_eq_true rfl, Nat.le_of_ble_eq_true rfl⟩) ⟨Nat.le_of_ble_eq_true rfl, Nat.le_of_ble_eq_true rfl⟩ rfl rfl (lv_room (Nat.le_of_ble_eq_true rfl)) dX7_passes_105 (fun H locs hI => ?_)
          refine lv_aload_n hx hb dX7_passes_108 rfl (lv_at hl 0 rfl) ?_
          refine lv_aload_n hx hb dX7_passes_109 rfl (lv_at hl 0 rfl) ?_
          refine lv_iload hx hb dX7_passes_110 (lv_at hl 3 rfl) ?_
          refine lv_iconst (v := (0 : Int32)) hx hb dX7_passes_112 (by decide) ?_
          obtain ⟨x113, ex113, hf⟩ := obd hf
          refine tcallI (rest := [.ref o, .int x105]) hx hb hts hown hE hz hI hml hl.1 (mX7_of t97 w42.2 (0 : Int32) _ ex113) (cwX7_of hts ⟨Nat.le_of_ble_eq_true rfl, Nat.le_of_ble_eq_true rfl⟩) ⟨Nat.le_of_ble_eq_true rfl, Nat.le_of_ble_eq_true rfl⟩ rfl rfl (lv_room (Nat.le_of_ble_eq_true rfl)) dX7_passes_113 (fun H locs hI => ?_)
          refine lv_iconst (v := (0 : Int32)) hx hb dX7_passes_116 (by decide) ?_
          obtain ⟨x117, ex117, hf⟩ := obd hf
          refine tcallI (rest := [.int x105]) hx hb hts hown hE hz hI hml hl.1 (mX7_ofInk t97 x113 (0 : Int32) _ ex117) (cwX7_ofInk hts ⟨Nat.le_of_ble_eq_true rfl, Nat.le_of_ble_eq_true rfl⟩) ⟨Nat.le_of_ble_eq_true rfl, Nat.le_of_ble_eq_true rfl⟩ rfl rfl (lv_room (Nat.le_of_ble_eq_true rfl)) dX7_passes_117 (fun H locs hI => ?_)
          refine lv_icmp_lt (tgt := 129) hx hb dX7_passes_120 (by decide) (fun hc => ?_) (fun hc => ?_)
          · replace hf := ipos hc hf
            obtain ⟨v129, ev129, hf⟩ := obd hf
            refine lv_iinc (v := v129) (lv' := [(4, .int v129), (0, .ref o), (2, .int c2), (3, .int c3)]) hx hb dX7_passes_129 hl (k := 3) rfl (iiE ev129 (by decide)) (by decide) rfl (fun ls hl => ?_)
            refine lv_goto (tgt := 42) hx hb dX7_passes_132 (by decide) ?_
            exact hk _ (Option.some.inj hf).symm H locs ls hI (lv_sub hl [1, 2, 3, 0] rfl)
          · replace hf := ineg hc hf
            refine lv_aload_n hx hb dX7_passes_123 rfl (lv_at hl 0 rfl) ?_
            refine lv_iload hx hb dX7_passes_124 (lv_at hl 3 rfl) ?_
            obtain ⟨t126, et126, hf⟩ := obd hf
            refine tcallV (rest := []) hx hb hts hown hE hz hI hml hl.1 (mX7_comesUp t97 w42.2 _ et126) (cwX7_comesUp hts ⟨Nat.le_of_ble_eq_true rfl, Nat.le_of_ble_eq_true rfl⟩) ⟨Nat.le_of_ble_eq_true rfl, Nat.le_of_ble_eq_true rfl⟩ rfl rfl (lv_room (Nat.le_of_ble_eq_true rfl)) dX7_passes_126 (fun H locs hI => ?_)
            obtain ⟨v129_15, ev129_15, hf⟩ := obd hf
            refine lv_iinc (v := v129_15) (lv' := [(4, .int v129_15), (0, .ref o), (2, .int c2), (3, .int c3)]) hx hb dX7_passes_129 hl (k := 3) rfl (iiE ev129_15 (by decide)) (by decide) rfl (fun ls hl => ?_)
            refine lv_goto (tgt := 42) hx hb dX7_passes_132 (by decide) ?_
            exact hk _ (Option.some.inj hf).symm H locs ls hI (lv_sub hl [1, 2, 3, 0] rfl)
        · replace hf := ipos hc hf
          refine lv_goto (tgt := 129) hx hb dX7_passes_62 (by decide) ?_
          obtain ⟨v129_16, ev129_16, hf⟩ := obd hf
          refine lv_iinc (v := v129_16) (lv' := [(4, .int v129_16), (0, .ref o), (2, .int c2), (3, .int c3)]) hx hb dX7_passes_129 hl (k := 3) rfl (iiE ev129_16 (by decide)) (by decide) rfl (fun ls hl => ?_)
          refine lv_goto (tgt := 42) hx hb dX7_passes_132 (by decide) ?_
          exact hk _ (Option.some.inj hf).symm H locs ls hI (lv_sub hl [1, 2, 3, 0] rfl)
    refine loopO_W (Wat := fun w42 => ∀ (H : Heap) (locs : List Loc) (ls : Array Slot), IT D cI cZ o s H locs w42.1 → lv_has ls 6 [(0, .ref o), (2, .int y0), (3, .int x35), (4, .int w42.2)] → W p l e ({ frames := 693, cells := 0, slots := 0, locals := 20070 } : Room) s m args below meth c H locs 0 0 Q (F0 m 42 ls [])) (Wex := fun ex_ => ∀ (H : Heap) (locs : List Loc) (ls : Array Slot), IT D cI cZ o s H locs ex_ → lv_has ls 6 [(0, .ref o), (3, .int x35)] → W p l e ({ frames := 693, cells := 0, slots := 0, locals := 20070 } : Room) s m args below meth c H locs 0 0 Q (F0 m 135 ls [])) (hs42 y0 x35) FU _ e42 he42 ?_ H locs ls hI (lv_sub hl [3, 2, 1, 0] rfl)
    · skip
      intro H locs ls hI hl
      refine lv_iconst (v := (0 : Int32)) hx hb dX7_passes_135 (by decide) ?_
      refine lv_istore (lv' := [(4, .int (0 : Int32)), (0, .ref o), (3, .int x35)]) hx hb dX7_passes_136 hl (by decide) rfl (fun ls hl => ?_)
      obtain ⟨e138, he138, hf⟩ := obd hf
      have hs138 : ∀ (c3 : Int32), ∀ (w138 : Mm × Int32) (o138 : (Mm × Int32) ⊕ (Mm)), X7_passes_L138 c3 w138 = some o138 → (∀ wx_, o138 = .inl wx_ → ∀ (H : Heap) (locs : List Loc) (ls : Array Slot), IT D cI cZ o s H locs wx_.1 → lv_has ls 6 [(0, .ref o), (3, .int c3), (4, .int wx_.2)] → W p l e ({ frames := 693, cells := 0, slots := 0, locals := 20070 } : Room) s m args below meth c H locs 0 0 Q (F0 m 138 ls [])) → (∀ ex_, o138 = .inr ex_ → ∀ (H : Heap) (locs : List Loc) (ls : Array Slot), IT D cI cZ o s H locs ex_ → lv_has ls 6 [(0, .ref o)] → W p l e ({ frames := 693, cells := 0, slots := 0, locals := 20070 } : Room) s m args below meth c H locs 0 0 Q (F0 m 236 ls [])) → ∀ (H : Heap) (locs : List Loc) (ls : Array Slot), IT D cI cZ o s H locs w138.1 → lv_has ls 6 [(0, .ref o), (3, .int c3), (4, .int w138.2)] → W p l e ({ frames := 693, cells := 0, slots := 0, locals := 20070 } : Room) s m args below meth c H locs 0 0 Q (F0 m 138 ls []) := by
        intro c3 w138 o138 hf hk hq H locs ls hI hl
        unfold X7_passes_L138 at hf
        refine lv_iload hx hb dX7_passes_138 (lv_at hl 2 rfl) ?_
        refine lv_aload_n hx hb dX7_passes_140 rfl (lv_at hl 0 rfl) ?_
        refine tget hx hb hts hown hE hI 1 (by decide) q2101 rfl dX7_passes_141 ?_
        refine lv_iconst (v := (5 : Int32)) hx hb dX7_passes_144 (by decide) ?_
        refine taldc hx hb hE hI 1 781 5 rfl (by decide) (by decide) dX7_passes_145 ?_
        refine lv_icmp_ge (tgt := 236) hx hb dX7_passes_146 (by decide) (fun hc => ?_) (fun hc => ?_)
        · replace hf := ipos hc hf
          exact hq _ (Option.some.inj hf).symm H locs ls hI (lv_sub hl [0] rfl)
        · replace hf := ineg hc hf
          refine lv_aload_n hx hb dX7_passes_149 rfl (lv_at hl 0 rfl) ?_
          refine lv_aload_n hx hb dX7_passes_150 rfl (lv_at hl 0 rfl) ?_
          refine lv_iload hx hb dX7_passes_151 (lv_at hl 2 rfl) ?_
          refine lv_iconst (v := (0 : Int32)) hx hb dX7_passes_153 (by decide) ?_
          obtain ⟨x154, ex154, hf⟩ := obd hf
          refine tcallI (rest := [.ref o]) hx hb hts hown hE hz hI hml hl.1 (mX7_of w138.1 w138.2 (0 : Int32) _ ex154) (cwX7_of hts ⟨Nat.le_of_ble_eq_true rfl, Nat.le_of_ble_eq_true rfl⟩) ⟨Nat.le_of_ble_eq_true rfl, Nat.le_of_ble_eq_true rfl⟩ rfl rfl (lv_room (Nat.le_of_ble_eq_true rfl)) dX7_passes_154 (fun H locs hI => ?_)
          refine lv_iconst (v := (1 : Int32)) hx hb dX7_passes_157 (by decide) ?_
          obtain ⟨x158, ex158, hf⟩ := obd hf
          refine tcallI (rest := []) hx hb hts hown hE hz hI hml hl.1 (mX7_ofInk w138.1 x154 (1 : Int32) _ ex158) (cwX7_ofInk hts ⟨Nat.le_of_ble_eq_true rfl, Nat.le_of_ble_eq_true rfl⟩) ⟨Nat.le_of_ble_eq_true rfl, Nat.le_of_ble_eq_true rfl⟩ rfl rfl (lv_room (Nat.le_of_ble_eq_true rfl)) dX7_passes_158 (fun H locs hI => ?_)
          refine lv_istore (lv' := [(5, .int x158), (0, .ref o), (3, .int c3), (4, .int w138.2)]) hx hb dX7_passes_161 hl (by decide) rfl (fun ls hl => ?_)
          refine lv_iload_n hx hb dX7_passes_163 rfl (lv_at hl 2 rfl) ?_
          refine lv_iload hx hb dX7_passes_164 (lv_at hl 3 rfl) ?_
          obtain ⟨x166, ex166, hf⟩ := obd hf
          refine tcallS (rest := []) hx hb hts hown hml hl.1 (mX7_isOf c3 w138.2 _ ex166) (cwX7_isOf hts ⟨Nat.le_of_ble_eq_true rfl, Nat.le_of_ble_eq_true rfl⟩) ⟨Nat.le_of_ble_eq_true rfl, Nat.le_of_ble_eq_true rfl⟩ rfl rfl (lv_room (Nat.le_of_ble_eq_true rfl)) dX7_passes_166 ?_
          refine lv_if_ne (tgt := 230) hx hb dX7_passes_169 (by decide) (fun hc => ?_) (fun hc => ?_)
          · replace hf := ineg hc hf
            obtain ⟨v230, ev230, hf⟩ := obd hf
            refine lv_iinc (v := v230) (lv' := [(4, .int v230), (5, .int x158), (0, .ref o), (3, .int c3)]) hx hb dX7_passes_230 hl (k := 3) rfl (iiE ev230 (by decide)) (by decide) rfl (fun ls hl => ?_)
            refine lv_goto (tgt := 138) hx hb dX7_passes_233 (by decide) ?_
            exact hk _ (Option.some.inj hf).symm H locs ls hI (lv_sub hl [2, 3, 0] rfl)
          · replace hf := ipos hc hf
            refine lv_aload_n hx hb dX7_passes_172 rfl (lv_at hl 1 rfl) ?_
            refine lv_iload hx hb dX7_passes_173 (lv_at hl 3 rfl) ?_
            refine lv_bipush (v := (10 : Int32)) hx hb dX7_passes_175 (by decide) ?_
            obtain ⟨x177, ex177, hf⟩ := obd hf
            refine tcallI (rest := []) hx hb hts hown hE hz hI hml hl.1 (mX7_of w138.1 w138.2 (10 : Int32) _ ex177) (cwX7_of hts ⟨Nat.le_of_ble_eq_true rfl, Nat.le_of_ble_eq_true rfl⟩) ⟨Nat.le_of_ble_eq_true rfl, Nat.le_of_ble_eq_true rfl⟩ rfl rfl (lv_room (Nat.le_of_ble_eq_true rfl)) dX7_passes_177 (fun H locs hI => ?_)
            refine lv_iconst (v := (1 : Int32)) hx hb dX7_passes_180 (by decide) ?_
            refine lv_icmp_ne (tgt := 230) hx hb dX7_passes_181 (by decide) (fun hc => ?_) (fun hc => ?_)
            · replace hf := ineg hc hf
              obtain ⟨v230_22, ev230_22, hf⟩ := obd hf
              refine lv_iinc (v := v230_22) (lv' := [(4, .int v230_22), (5, .int x158), (0, .ref o), (3, .int c3)]) hx hb dX7_passes_230 hl (k := 3) rfl (iiE ev230_22 (by decide)) (by decide) rfl (fun ls hl => ?_)
              refine lv_goto (tgt := 138) hx hb dX7_passes_233 (by decide) ?_
              exact hk _ (Option.some.inj hf).symm H locs ls hI (lv_sub hl [2, 3, 0] rfl)
            · replace hf := ipos hc hf
              refine lv_iload hx hb dX7_passes_184 (lv_at hl 0 rfl) ?_
              refine lv_if_eq (tgt := 230) hx hb dX7_passes_186 (by decide) (fun hc => ?_) (fun hc => ?_)
              · replace hf := ipos hc hf
                obtain ⟨v230_23, ev230_23, hf⟩ := obd hf
                refine lv_iinc (v := v230_23) (lv' := [(4, .int v230_23), (5, .int x158), (0, .ref o), (3, .int c3)]) hx hb dX7_passes_230 hl (k := 3) rfl (iiE ev230_23 (by decide)) (by decide) rfl (fun ls hl => ?_)
                refine lv_goto (tgt := 138) hx hb dX7_passes_233 (by decide) ?_
                exact hk _ (Option.some.inj hf).symm H locs ls hI (lv_sub hl [2, 3, 0] rfl)
              · replace hf := ineg hc hf
                refine lv_aload_n hx hb dX7_passes_189 rfl (lv_at hl 1 rfl) ?_
                refine tget hx hb hts hown hE hI 1 (by decide) q2101 rfl dX7_passes_190 ?_
                refine lv_bipush (v := (6 : Int32)) hx hb dX7_passes_193 (by decide) ?_
                refine taldc hx hb hE hI 1 781 6 rfl (by decide) (by decide) dX7_passes_195 ?_
                refine lv_aload_n hx hb dX7_passes_196 rfl (lv_at hl 1 rfl) ?_
                refine lv_iload hx hb dX7_passes_197 (lv_at hl 3 rfl) ?_
                refine lv_bipush (v := (9 : Int32)) hx hb dX7_passes_199 (by decide) ?_
                obtain ⟨x201, ex201, hf⟩ := obd hf
                refine tcallI (rest := [.int (w138.1 0 6)]) hx hb hts hown hE hz hI hml hl.1 (mX7_of w138.1 w138.2 (9 : Int32) _ ex201) (cwX7_of hts ⟨Nat.le_of_ble_eq_true rfl, Nat.le_of_ble_eq_true rfl⟩) ⟨Nat.le_of_ble_eq_true rfl, Nat.le_of_ble_eq_true rfl⟩ rfl rfl (lv_room (Nat.le_of_ble_eq_true rfl)) dX7_passes_201 (fun H locs hI => ?_)
                refine lv_isub hx hb dX7_passes_204 ?_
                refine lv_iload hx hb dX7_passes_205 (lv_at hl 0 rfl) ?_
                refine lv_icmp_ge (tgt := 213) hx hb dX7_passes_207 (by decide) (fun hc => ?_) (fun hc => ?_)
                · replace hf := ipos hc hf
                  refine lv_aload_n hx hb dX7_passes_213 rfl (lv_at hl 1 rfl) ?_
                  refine lv_iload hx hb dX7_passes_214 (lv_at hl 3 rfl) ?_
                  refine lv_bipush (v := (10 : Int32)) hx hb dX7_passes_216 (by decide) ?_
                  refine lv_iconst (v := (2 : Int32)) hx hb dX7_passes_218 (by decide) ?_
                  obtain ⟨t219, et219, hf⟩ := obd hf
                  refine tcallV (rest := []) hx hb hts hown hE hz hI hml hl.1 (mX7_lays w138.1 w138.2 (10 : Int32) (2 : Int32) _ et219) (cwX7_lays hts ⟨Nat.le_of_ble_eq_true rfl, Nat.le_of_ble_eq_true rfl⟩) ⟨Nat.le_of_ble_eq_true rfl, Nat.le_of_ble_eq_true rfl⟩ rfl rfl (lv_room (Nat.le_of_ble_eq_true rfl)) dX7_passes_219 (fun H locs hI => ?_)
                  refine lv_aload_n hx hb dX7_passes_222 rfl (lv_at hl 1 rfl) ?_
                  refine lv_iload hx hb dX7_passes_223 (lv_at hl 3 rfl) ?_
                  refine lv_iconst (v := (1 : Int32)) hx hb dX7_passes_225 (by decide) ?_
                  refine lv_iconst (v := (0 : Int32)) hx hb dX7_passes_226 (by decide) ?_
                  obtain ⟨t227, et227, hf⟩ := obd hf
                  refine tcallV (rest := []) hx hb hts hown hE hz hI hml hl.1 (mX7_logs t219 w138.2 (1 : Int32) (0 : Int32) _ et227) (cwX7_logs hts ⟨Nat.le_of_ble_eq_true rfl, Nat.le_of_ble_eq_true rfl⟩) ⟨Nat.le_of_ble_eq_true rfl, Nat.le_of_ble_eq_true rfl⟩ rfl rfl (lv_room (Nat.le_of_ble_eq_true rfl)) dX7_passes_227 (fun H locs hI => ?_)
                  obtain ⟨v230_29, ev230_29, hf⟩ := obd hf
                  refine lv_iinc (v := v230_29) (lv' := [(4, .int v230_29), (5, .int x158), (0, .ref o), (3, .int c3)]) hx hb dX7_passes_230 hl (k := 3) rfl (iiE ev230_29 (by decide)) (by decide) rfl (fun ls hl => ?_)
                  refine lv_goto (tgt := 138) hx hb dX7_passes_233 (by decide) ?_
                  exact hk _ (Option.some.inj hf).symm H locs ls hI (lv_sub hl [2, 3, 0] rfl)
                · replace hf := ineg hc hf
                  refine lv_goto (tgt := 230) hx hb dX7_passes_210 (by decide) ?_
                  obtain ⟨v230_30, ev230_30, hf⟩ := obd hf
                  refine lv_iinc (v := v230_30) (lv' := [(4, .int v230_30), (5, .int x158), (0, .ref o), (3, .int c3)]) hx hb dX7_passes_230 hl (k := 3) rfl (iiE ev230_30 (by decide)) (by decide) rfl (fun ls hl => ?_)
                  refine lv_goto (tgt := 138) hx hb dX7_passes_233 (by decide) ?_
                  exact hk _ (Option.some.inj hf).symm H locs ls hI (lv_sub hl [2, 3, 0] rfl)
      refine loopO_W (Wat := fun w138 => ∀ (H : Heap) (locs : List Loc) (ls : Array Slot), IT D cI cZ o s H locs w138.1 → lv_has ls 6 [(0, .ref o), (3, .int x35), (4, .int w138.2)] → W p l e ({ frames := 693, cells := 0, slots := 0, locals := 20070 } : Room) s m args below meth c H locs 0 0 Q (F0 m 138 ls [])) (Wex := fun ex_ => ∀ (H : Heap) (locs : List Loc) (ls : Array Slot), IT D cI cZ o s H locs ex_ → lv_has ls 6 [(0, .ref o)] → W p l e ({ frames := 693, cells := 0, slots := 0, locals := 20070 } : Room) s m args below meth c H locs 0 0 Q (F0 m 236 ls [])) (hs138 x35) FU _ e138 he138 ?_ H locs ls hI (lv_sub hl [1, 2, 0] rfl)
      · skip
        intro H locs ls hI hl
        refine lv_iconst (v := (0 : Int32)) hx hb dX7_passes_236 (by decide) ?_
        refine lv_istore (lv' := [(4, .int (0 : Int32)), (0, .ref o)]) hx hb dX7_passes_237 hl (by decide) rfl (fun ls hl => ?_)
        refine lv_iconst (v := (0 : Int32)) hx hb dX7_passes_239 (by decide) ?_
        refine lv_istore (lv' := [(5, .int (0 : Int32)), (4, .int (0 : Int32)), (0, .ref o)]) hx hb dX7_passes_240 hl (by decide) rfl (fun ls hl => ?_)
        obtain ⟨e242, he242, hf⟩ := obd hf
        refine loopO_W (Wat := fun w242 => ∀ (H : Heap) (locs : List Loc) (ls : Array Slot), IT D cI cZ o s H locs w242.1 → lv_has ls 6 [(0, .ref o), (4, .int w242.2.1), (5, .int w242.2.2)] → W p l e ({ frames := 693, cells := 0, slots := 0, locals := 20070 } : Room) s m args below meth c H locs 0 0 Q (F0 m 242 ls [])) (Wex := fun ex_ => ∀ (H : Heap) (locs : List Loc) (ls : Array Slot), IT D cI cZ o s H locs ex_.1 → lv_has ls 6 [(0, .ref o), (4, .int ex_.2)] → W p l e ({ frames := 693, cells := 0, slots := 0, locals := 20070 } : Room) s m args below meth c H locs 0 0 Q (F0 m 318 ls [])) (fun w242 o242 hf hk hq => ?_) FU _ e242 he242 ?_ H locs ls hI (lv_sub hl [2, 1, 0] rfl)
        · intro H locs ls hI hl
          unfold X7_passes_L242 at hf
          refine lv_iload hx hb dX7_passes_242 (lv_at hl 2 rfl) ?_
          refine lv_aload_n hx hb dX7_passes_244 rfl (lv_at hl 0 rfl) ?_
          refine tget hx hb hts hown hE hI 1 (by decide) q2101 rfl dX7_passes_245 ?_
          refine lv_iconst (v := (5 : Int32)) hx hb dX7_passes_248 (by decide) ?_
          refine taldc hx hb hE hI 1 781 5 rfl (by decide) (by decide) dX7_passes_249 ?_
          refine lv_icmp_ge (tgt := 318) hx hb dX7_passes_250 (by decide) (fun hc => ?_) (fun hc => ?_)
          · replace hf := ipos hc hf
            exact hq _ (Option.some.inj hf).symm H locs ls hI (lv_sub hl [0, 1] rfl)
          · replace hf := ineg hc hf
            refine lv_aload_n hx hb dX7_passes_253 rfl (lv_at hl 0 rfl) ?_
            refine lv_iload hx hb dX7_passes_254 (lv_at hl 2 rfl) ?_
            obtain ⟨x256, ex256, hf⟩ := obd hf
            refine tcallI (rest := []) hx hb hts hown hE hz hI hml hl.1 (mX7_isValidNow w242.1 w242.2.2 _ ex256) (cwX7_isValidNow hts ⟨Nat.le_of_ble_eq_true rfl, Nat.le_of_ble_eq_true rfl⟩) ⟨Nat.le_of_ble_eq_true rfl, Nat.le_of_ble_eq_true rfl⟩ rfl rfl (lv_room (Nat.le_of_ble_eq_true rfl)) dX7_passes_256 (fun H locs hI => ?_)
            refine lv_if_eq (tgt := 312) hx hb dX7_passes_259 (by decide) (fun hc => ?_) (fun hc => ?_)
            · replace hf := ipos hc hf
              obtain ⟨v312, ev312, hf⟩ := obd hf
              refine lv_iinc (v := v312) (lv' := [(5, .int v312), (0, .ref o), (4, .int w242.2.1)]) hx hb dX7_passes_312 hl (k := 2) rfl (iiE ev312 (by decide)) (by decide) rfl (fun ls hl => ?_)
              refine lv_goto (tgt := 242) hx hb dX7_passes_315 (by decide) ?_
              exact hk _ (Option.some.inj hf).symm H locs ls hI (lv_sub hl [1, 2, 0] rfl)
            · replace hf := ineg hc hf
              refine lv_aload_n hx hb dX7_passes_262 rfl (lv_at hl 0 rfl) ?_
              refine lv_iload hx hb dX7_passes_263 (lv_at hl 2 rfl) ?_
              refine lv_bipush (v := (11 : Int32)) hx hb dX7_passes_265 (by decide) ?_
              obtain ⟨x267, ex267, hf⟩ := obd hf
              refine tcallI (rest := []) hx hb hts hown hE hz hI hml hl.1 (mX7_of w242.1 w242.2.2 (11 : Int32) _ ex267) (cwX7_of hts ⟨Nat.le_of_ble_eq_true rfl, Nat.le_of_ble_eq_true rfl⟩) ⟨Nat.le_of_ble_eq_true rfl, Nat.le_of_ble_eq_true rfl⟩ rfl rfl (lv_room (Nat.le_of_ble_eq_true rfl)) dX7_passes_267 (fun H locs hI => ?_)
              refine lv_iconst (v := (1 : Int32)) hx hb dX7_passes_270 (by decide) ?_
              refine lv_icmp_eq (tgt := 312) hx hb dX7_passes_271 (by decide) (fun hc => ?_) (fun hc => ?_)
              · replace hf := ipos hc hf
                obtain ⟨v312_34, ev312_34, hf⟩ := obd hf
                refine lv_iinc (v := v312_34) (lv' := [(5, .int v312_34), (0, .ref o), (4, .int w242.2.1)]) hx hb dX7_passes_312 hl (k := 2) rfl (iiE ev312_34 (by decide)) (by decide) rfl (fun ls hl => ?_)
                refine lv_goto (tgt := 242) hx hb dX7_passes_315 (by decide) ?_
                exact hk _ (Option.some.inj hf).symm H locs ls hI (lv_sub hl [1, 2, 0] rfl)
              · replace hf := ineg hc hf
                refine lv_aload_n hx hb dX7_passes_274 rfl (lv_at hl 0 rfl) ?_
                refine tget hx hb hts hown hE hI 1 (by decide) q2101 rfl dX7_passes_275 ?_
                refine lv_bipush (v := (6 : Int32)) hx hb dX7_passes_278 (by decide) ?_
                refine taldc hx hb hE hI 1 781 6 rfl (by decide) (by decide) dX7_passes_280 ?_
                refine lv_aload_n hx hb dX7_passes_281 rfl (lv_at hl 0 rfl) ?_
                refine lv_iload hx hb dX7_passes_282 (lv_at hl 2 rfl) ?_
                refine lv_bipush (v := (9 : Int32)) hx hb dX7_passes_284 (by decide) ?_
                obtain ⟨x286, ex286, hf⟩ := obd hf
                refine tcallI (rest := [.int (w242.1 0 6)]) hx hb hts hown hE hz hI hml hl.1 (mX7_of w242.1 w242.2.2 (9 : Int32) _ ex286) (cwX7_of hts ⟨Nat.le_of_ble_eq_true rfl, Nat.le_of_ble_eq_true rfl⟩) ⟨Nat.le_of_ble_eq_true rfl, Nat.le_of_ble_eq_true rfl⟩ rfl rfl (lv_room (Nat.le_of_ble_eq_true rfl)) dX7_passes_286 (fun H locs hI => ?_)
                refine lv_isub hx hb dX7_passes_289 ?_
                refine lv_aload_n hx hb dX7_passes_290 rfl (lv_at hl 0 rfl) ?_
                refine lv_iload hx hb dX7_passes_291 (lv_at hl 2 rfl) ?_
                refine lv_iconst (v := (4 : Int32)) hx hb dX7_passes_293 (by decide) ?_
                obtain ⟨x294, ex294, hf⟩ := obd hf
                refine tcallI (rest := [.int ((w242.1 0 6) - x286)]) hx hb hts hown hE hz hI hml hl.1 (mX7_of w242.1 w242.2.2 (4 : Int32) _ ex294) (cwX7_of hts ⟨Nat.le_of_ble_eq_true rfl, Nat.le_of_ble_eq_true rfl⟩) ⟨Nat.le_of_ble_eq_true rfl, Nat.le_of_ble_eq_true rfl⟩ rfl rfl (lv_room (Nat.le_of_ble_eq_true rfl)) dX7_passes_294 (fun H locs hI => ?_)
                refine lv_icmp_ge (tgt := 303) hx hb dX7_passes_297 (by decide) (fun hc => ?_) (fun hc => ?_)
                · replace hf := ipos hc hf
                  refine lv_aload_n hx hb dX7_passes_303 rfl (lv_at hl 0 rfl) ?_
                  refine lv_iload hx hb dX7_passes_304 (lv_at hl 2 rfl) ?_
                  obtain ⟨t306, et306, hf⟩ := obd hf
                  refine tcallV (rest := []) hx hb hts hown hE hz hI hml hl.1 (mX7_pays w242.1 w242.2.2 _ et306) (cwX7_pays hts ⟨Nat.le_of_ble_eq_true rfl, Nat.le_of_ble_eq_true rfl⟩) ⟨Nat.le_of_ble_eq_true rfl, Nat.le_of_ble_eq_true rfl⟩ rfl rfl (lv_room (Nat.le_of_ble_eq_true rfl)) dX7_passes_306 (fun H locs hI => ?_)
                  obtain ⟨v309, ev309, hf⟩ := obd hf
                  refine lv_iinc (v := v309) (lv' := [(4, .int v309), (0, .ref o), (5, .int w242.2.2)]) hx hb dX7_passes_309 hl (k := 1) rfl (iiE ev309 (by decide)) (by decide) rfl (fun ls hl => ?_)
                  obtain ⟨v312_40, ev312_40, hf⟩ := obd hf
                  refine lv_iinc (v := v312_40) (lv' := [(5, .int v312_40), (4, .int v309), (0, .ref o)]) hx hb dX7_passes_312 hl (k := 2) rfl (iiE ev312_40 (by decide)) (by decide) rfl (fun ls hl => ?_)
                  refine lv_goto (tgt := 242) hx hb dX7_passes_315 (by decide) ?_
                  exact hk _ (Option.some.inj hf).symm H locs ls hI (lv_sub hl [2, 1, 0] rfl)
                · replace hf := ineg hc hf
                  refine lv_goto (tgt := 312) hx hb dX7_passes_300 (by decide) ?_
                  obtain ⟨v312_41, ev312_41, hf⟩ := obd hf
                  refine lv_iinc (v := v312_41) (lv' := [(5, .int v312_41), (0, .ref o), (4, .int w242.2.1)]) hx hb dX7_passes_312 hl (k := 2) rfl (iiE ev312_41 (by decide)) (by decide) rfl (fun ls hl => ?_)
                  refine lv_goto (tgt := 242) hx hb dX7_passes_315 (by decide) ?_
                  exact hk _ (Option.some.inj hf).symm H locs ls hI (lv_sub hl [1, 2, 0] rfl)
        · skip
          intro H locs ls hI hl
          refine lv_aload_n hx hb dX7_passes_318 rfl (lv_at hl 0 rfl) ?_
          refine tget hx hb hts hown hE hI 1 (by decide) q2101 rfl dX7_passes_319 ?_
          refine lv_bipush (v := (6 : Int32)) hx hb dX7_passes_322 (by decide) ?_
          refine lv_sipush (v := (9999 : Int32)) hx hb dX7_passes_324 (by decide) ?_
          refine lv_aload_n hx hb dX7_passes_327 rfl (lv_at hl 0 rfl) ?_
          refine tget hx hb hts hown hE hI 1 (by decide) q2101 rfl dX7_passes_328 ?_
          refine lv_bipush (v := (6 : Int32)) hx hb dX7_passes_331 (by decide) ?_
          refine taldc hx hb hE hI 1 781 6 rfl (by decide) (by decide) dX7_passes_333 ?_
          refine lv_iconst (v := (1 : Int32)) hx hb dX7_passes_334 (by decide) ?_
          refine lv_iadd hx hb dX7_passes_335 ?_
          obtain ⟨x336, ex336, hf⟩ := obd hf
          refine tcallS (rest := [.int (6 : Int32), .ref (o + 1)]) hx hb hts hown hml hl.1 (mX7_lesser (9999 : Int32) ((e242.1 0 6) + (1 : Int32)) _ ex336) (cwX7_lesser hts ⟨Nat.le_of_ble_eq_true rfl, Nat.le_of_ble_eq_true rfl⟩) ⟨Nat.le_of_ble_eq_true rfl, Nat.le_of_ble_eq_true rfl⟩ rfl rfl (lv_room (Nat.le_of_ble_eq_true rfl)) dX7_passes_336 ?_
          obtain ⟨t339, et339, hf⟩ := obd hf
          refine tast hx hb hE hI 1 781 0 rfl (fun _ => rfl) et339 dX7_passes_339 (fun H locs hI => ?_)
          refine lv_iload hx hb dX7_passes_340 (lv_at hl 1 rfl) ?_
          have hf := Prod.mk.inj (Option.some.inj hf)
          rw [hf.1]
          exact hret H locs 342 ls (hf.2 ▸ hI) dX7_passes_342
  refine lv_iload_n hx hb dX7_passes_0 rfl (lv_at hl 1 rfl) ?_
  refine lv_if_eq (tgt := 28) hx hb dX7_passes_1 (by decide) (fun hc => ?_) (fun hc => ?_)
  · replace hf := ipos hc hf
    refine lv_aload_n hx hb dX7_passes_28 rfl (lv_at hl 0 rfl) ?_
    refine tget hx hb hts hown hE hI 19 (by decide) q2119 rfl dX7_passes_29 ?_
    exact hJ32 τ (τ 10 19) H locs ls hf hI  (lv_sub hl [0] rfl)
  · replace hf := ineg hc hf
    refine lv_aload_n hx hb dX7_passes_4 rfl (lv_at hl 0 rfl) ?_
    refine lv_bipush (v := (100 : Int32)) hx hb dX7_passes_5 (by decide) ?_
    obtain ⟨x7, ex7, hf⟩ := obd hf
    refine tcallI (rest := []) hx hb hts hown hE hz hI hml hl.1 (mX7_draw τ (100 : Int32) _ _ ex7) (cwX7_draw hts ⟨Nat.le_of_ble_eq_true rfl, Nat.le_of_ble_eq_true rfl⟩) ⟨Nat.le_of_ble_eq_true rfl, Nat.le_of_ble_eq_true rfl⟩ rfl rfl (lv_room (Nat.le_of_ble_eq_true rfl)) dX7_passes_7 (fun H locs hI => ?_)
    refine lv_aload_n hx hb dX7_passes_10 rfl (lv_at hl 0 rfl) ?_
    refine tget hx hb hts hown hE hI 1 (by decide) q2101 rfl dX7_passes_11 ?_
    refine lv_bipush (v := (8 : Int32)) hx hb dX7_passes_14 (by decide) ?_
    refine taldc hx hb hE hI 1 781 8 rfl (by decide) (by decide) dX7_passes_16 ?_
    refine lv_icmp_ge (tgt := 24) hx hb dX7_passes_17 (by decide) (fun hc => ?_) (fun hc => ?_)
    · replace hf := ipos hc hf
      refine lv_iconst (v := (0 : Int32)) hx hb dX7_passes_24 (by decide) ?_
      refine lv_goto (tgt := 32) hx hb dX7_passes_25 (by decide) ?_
      exact hJ32 x7.2 (0 : Int32) H locs ls hf hI  (lv_sub hl [0] rfl)
    · replace hf := ineg hc hf
      refine lv_iconst (v := (1 : Int32)) hx hb dX7_passes_20 (by decide) ?_
      refine lv_goto (tgt := 32) hx hb dX7_passes_21 (by decide) ?_
      exact hJ32 x7.2 (1 : Int32) H locs ls hf hI  (lv_sub hl [0] rfl)
theorem cwX7_passes {R : Room} {s : State} {args : Array Value} {fr lo : Nat} (hts : ∀ w ∈ lw_all, w.before args s = true) (hR : fr + 1 ≤ R.frames ∧ 8 + (6 + 11) + lo ≤ R.locals) : CallW R s args RX7 RX7 300 yX7_passes cX7_passes 6 (some .int) (ws_ yX7_passes cX7_passes 6 (some .int)) ({ frames := fr, cells := 0, slots := 0, locals := lo }) 0 0 1 :=
  cwV 1 hts (lw_V q2452 q2454 qs108 q143 q2455) rfl rfl rfl (by decide +kernel) hR

def X7_firstBy_L10 (c1 : Int32) (c2 : Int32) (c3 : Int32) (w10 : Mm × Int32 × Int32) : Option ((Mm × Int32 × Int32) ⊕ (Mm × Int32)) :=
  if (80 : Int32) < w10.2.2 then
    some (.inr (w10.1, w10.2.1))
  else
    if w10.2.1 = (-1 : Int32) then
      (X7_of w10.1 c1 c2).bind fun x26 =>
      if x26 = c3 then
        (X7_passes w10.1 (0 : Int32)).bind fun x39 =>
        (some (w10.2.2 + (1 : Int32))).bind fun v44 =>
        some (.inl (x39.2, w10.2.1, v44))
      else
        (X7_passes w10.1 (0 : Int32)).bind fun x39_6 =>
        (some (w10.2.2 + (1 : Int32))).bind fun v44_7 =>
        some (.inl (x39_6.2, w10.2.2, v44_7))
    else
      some (.inr (w10.1, w10.2.1))
def X7_firstBy (τ : Mm) (a1 : Int32) (a2 : Int32) (a3 : Int32) : Option (Int32 × Mm) :=
  (X7_putsAside τ).bind fun t1 =>
  (loopO (X7_firstBy_L10 a1 a2 a3) FU (t1, (-1 : Int32), (0 : Int32))).bind fun e10 =>
  (X7_comesBack e10.1).bind fun t51 =>
  some (e10.2, t51)
set_option maxHeartbeats 4000000 in
theorem mX7_firstBy (τ : Mm) (a1 : Int32) (a2 : Int32) (a3 : Int32) (r : Int32) (τ' : Mm) (hf : X7_firstBy τ a1 a2 a3 = some (r, τ')) : TMi yX7_firstBy cX7_firstBy 7 (some .int) 694 20095 (fun aK => [.int a1, .int a2, .int a3]) r τ τ' := by
  refine TMi.of (by decide) rfl (fun _ _ => Nat.le_of_ble_eq_true rfl) ?_
  intro p l e s m args below meth c D cI cZ o z aK aV Q ls hz hx hb hml hown hts hE hret hI hl
  obtain ⟨H, eH⟩ : ∃ H, H = s.heap := ⟨_, rfl⟩
  obtain ⟨locs, eL⟩ : ∃ L : List Loc, L = [] := ⟨_, rfl⟩
  rw [← eH, ← eL] at hI ⊢
  have hl : lv_has ls 7 [(0, .ref o), (1, .int a1), (2, .int a2), (3, .int a3)] := hl
  unfold X7_firstBy at hf
  refine lv_aload_n hx hb dX7_firstBy_0 rfl (lv_at hl 0 rfl) ?_
  obtain ⟨t1, et1, hf⟩ := obd hf
  refine tcallV (rest := []) hx hb hts hown hE hz hI hml hl.1 (mX7_putsAside τ _ et1) (cwX7_putsAside hts ⟨Nat.le_of_ble_eq_true rfl, Nat.le_of_ble_eq_true rfl⟩) ⟨Nat.le_of_ble_eq_true rfl, Nat.le_of_ble_eq_true rfl⟩ rfl rfl (lv_room (Nat.le_of_ble_eq_true rfl)) dX7_firstBy_1 (fun H locs hI => ?_)
  refine lv_iconst (v := (-1 : Int32)) hx hb dX7_firstBy_4 (by decide) ?_
  refine lv_istore (lv' := [(4, .int (-1 : Int32)), (0, .ref o), (1, .int a1), (2, .int a2), (3, .int a3)]) hx hb dX7_firstBy_5 hl (by decide) rfl (fun ls hl => ?_)
  refine lv_iconst (v := (0 : Int32)) hx hb dX7_firstBy_7 (by decide) ?_
  refine lv_istore (lv' := [(5, .int (0 : Int32)), (4, .int (-1 : Int32)), (0, .ref o), (1, .int a1), (2, .int a2), (3, .int a3)]) hx hb dX7_firstBy_8 hl (by decide) rfl (fun ls hl => ?_)
  obtain ⟨e10, he10, hf⟩ := obd hf
  have hs10 : ∀ (c1 : Int32) (c2 : Int32) (c3 : Int32), ∀ (w10 : Mm × Int32 × Int32) (o10 : (Mm × Int32 × Int32) ⊕ (Mm × Int32)), X7_firstBy_L10 c1 c2 c3 w10 = some o10 → (∀ wx_, o10 = .inl wx_ → ∀ (H : Heap) (locs : List Loc) (ls : Array Slot), IT D cI cZ o s H locs wx_.1 → lv_has ls 7 [(0, .ref o), (1, .int c1), (2, .int c2), (3, .int c3), (4, .int wx_.2.1), (5, .int wx_.2.2)] → W p l e ({ frames := 694, cells := 0, slots := 0, locals := 20095 } : Room) s m args below meth c H locs 0 0 Q (F0 m 10 ls [])) → (∀ ex_, o10 = .inr ex_ → ∀ (H : Heap) (locs : List Loc) (ls : Array Slot), IT D cI cZ o s H locs ex_.1 → lv_has ls 7 [(0, .ref o), (4, .int ex_.2)] → W p l e ({ frames := 694, cells := 0, slots := 0, locals := 20095 } : Room) s m args below meth c H locs 0 0 Q (F0 m 50 ls [])) → ∀ (H : Heap) (locs : List Loc) (ls : Array Slot), IT D cI cZ o s H locs w10.1 → lv_has ls 7 [(0, .ref o), (1, .int c1), (2, .int c2), (3, .int c3), (4, .int w10.2.1), (5, .int w10.2.2)] → W p l e ({ frames := 694, cells := 0, slots := 0, locals := 20095 } : Room) s m args below meth c H locs 0 0 Q (F0 m 10 ls []) := by
    intro c1 c2 c3 w10 o10 hf hk hq H locs ls hI hl
    unfold X7_firstBy_L10 at hf
    refine lv_iload hx hb dX7_firstBy_10 (lv_at hl 5 rfl) ?_
    refine lv_bipush (v := (80 : Int32)) hx hb dX7_firstBy_12 (by decide) ?_
    refine lv_icmp_gt (tgt := 50) hx hb dX7_firstBy_14 (by decide) (fun hc => ?_) (fun hc => ?_)
    · replace hf := ipos hc hf
      exact hq _ (Option.some.inj hf).symm H locs ls hI (lv_sub hl [0, 4] rfl)
    · replace hf := ineg hc hf
      refine lv_iload hx hb dX7_firstBy_17 (lv_at hl 4 rfl) ?_
      refine lv_iconst (v := (-1 : Int32)) hx hb dX7_firstBy_19 (by decide) ?_
      refine lv_icmp_ne (tgt := 50) hx hb dX7_firstBy_20 (by decide) (fun hc => ?_) (fun hc => ?_)
      · replace hf := ineg hc hf
        exact hq _ (Option.some.inj hf).symm H locs ls hI (lv_sub hl [0, 4] rfl)
      · replace hf := ipos hc hf
        refine lv_aload_n hx hb dX7_firstBy_23 rfl (lv_at hl 0 rfl) ?_
        refine lv_iload_n hx hb dX7_firstBy_24 rfl (lv_at hl 1 rfl) ?_
        refine lv_iload_n hx hb dX7_firstBy_25 rfl (lv_at hl 2 rfl) ?_
        obtain ⟨x26, ex26, hf⟩ := obd hf
        refine tcallI (rest := []) hx hb hts hown hE hz hI hml hl.1 (mX7_of w10.1 c1 c2 _ ex26) (cwX7_of hts ⟨Nat.le_of_ble_eq_true rfl, Nat.le_of_ble_eq_true rfl⟩) ⟨Nat.le_of_ble_eq_true rfl, Nat.le_of_ble_eq_true rfl⟩ rfl rfl (lv_room (Nat.le_of_ble_eq_true rfl)) dX7_firstBy_26 (fun H locs hI => ?_)
        refine lv_iload_n hx hb dX7_firstBy_29 rfl (lv_at hl 3 rfl) ?_
        refine lv_icmp_eq (tgt := 37) hx hb dX7_firstBy_30 (by decide) (fun hc => ?_) (fun hc => ?_)
        · replace hf := ipos hc hf
          refine lv_aload_n hx hb dX7_firstBy_37 rfl (lv_at hl 0 rfl) ?_
          refine lv_iconst (v := (0 : Int32)) hx hb dX7_firstBy_38 (by decide) ?_
          obtain ⟨x39, ex39, hf⟩ := obd hf
          refine tcallI (rest := []) hx hb hts hown hE hz hI hml hl.1 (mX7_passes w10.1 (0 : Int32) _ _ ex39) (cwX7_passes hts ⟨Nat.le_of_ble_eq_true rfl, Nat.le_of_ble_eq_true rfl⟩) ⟨Nat.le_of_ble_eq_true rfl, Nat.le_of_ble_eq_true rfl⟩ rfl rfl (lv_room (Nat.le_of_ble_eq_true rfl)) dX7_firstBy_39 (fun H locs hI => ?_)
          refine lv_istore (lv' := [(6, .int x39.1), (0, .ref o), (1, .int c1), (2, .int c2), (3, .int c3), (4, .int w10.2.1), (5, .int w10.2.2)]) hx hb dX7_firstBy_42 hl (by decide) rfl (fun ls hl => ?_)
          obtain ⟨v44, ev44, hf⟩ := obd hf
          refine lv_iinc (v := v44) (lv' := [(5, .int v44), (6, .int x39.1), (0, .ref o), (1, .int c1), (2, .int c2), (3, .int c3), (4, .int w10.2.1)]) hx hb dX7_firstBy_44 hl (k := 6) rfl (iiE ev44 (by decide)) (by decide) rfl (fun ls hl => ?_)
          refine lv_goto (tgt := 10) hx hb dX7_firstBy_47 (by decide) ?_
          exact hk _ (Option.some.inj hf).symm H locs ls hI (lv_sub hl [2, 3, 4, 5, 6, 0] rfl)
        · replace hf := ineg hc hf
          refine lv_iload hx hb dX7_firstBy_33 (lv_at hl 5 rfl) ?_
          refine lv_istore (lv' := [(4, .int w10.2.2), (0, .ref o), (1, .int c1), (2, .int c2), (3, .int c3), (5, .int w10.2.2)]) hx hb dX7_firstBy_35 hl (by decide) rfl (fun ls hl => ?_)
          refine lv_aload_n hx hb dX7_firstBy_37 rfl (lv_at hl 1 rfl) ?_
          refine lv_iconst (v := (0 : Int32)) hx hb dX7_firstBy_38 (by decide) ?_
          obtain ⟨x39_6, ex39_6, hf⟩ := obd hf
          refine tcallI (rest := []) hx hb hts hown hE hz hI hml hl.1 (mX7_passes w10.1 (0 : Int32) _ _ ex39_6) (cwX7_passes hts ⟨Nat.le_of_ble_eq_true rfl, Nat.le_of_ble_eq_true rfl⟩) ⟨Nat.le_of_ble_eq_true rfl, Nat.le_of_ble_eq_true rfl⟩ rfl rfl (lv_room (Nat.le_of_ble_eq_true rfl)) dX7_firstBy_39 (fun H locs hI => ?_)
          refine lv_istore (lv' := [(6, .int x39_6.1), (4, .int w10.2.2), (0, .ref o), (1, .int c1), (2, .int c2), (3, .int c3), (5, .int w10.2.2)]) hx hb dX7_firstBy_42 hl (by decide) rfl (fun ls hl => ?_)
          obtain ⟨v44_7, ev44_7, hf⟩ := obd hf
          refine lv_iinc (v := v44_7) (lv' := [(5, .int v44_7), (6, .int x39_6.1), (4, .int w10.2.2), (0, .ref o), (1, .int c1), (2, .int c2), (3, .int c3)]) hx hb dX7_firstBy_44 hl (k := 6) rfl (iiE ev44_7 (by decide)) (by decide) rfl (fun ls hl => ?_)
          refine lv_goto (tgt := 10) hx hb dX7_firstBy_47 (by decide) ?_
          exact hk _ (Option.some.inj hf).symm H locs ls hI (lv_sub hl [3, 4, 5, 6, 2, 0] rfl)
  refine loopO_W (Wat := fun w10 => ∀ (H : Heap) (locs : List Loc) (ls : Array Slot), IT D cI cZ o s H locs w10.1 → lv_has ls 7 [(0, .ref o), (1, .int a1), (2, .int a2), (3, .int a3), (4, .int w10.2.1), (5, .int w10.2.2)] → W p l e ({ frames := 694, cells := 0, slots := 0, locals := 20095 } : Room) s m args below meth c H locs 0 0 Q (F0 m 10 ls [])) (Wex := fun ex_ => ∀ (H : Heap) (locs : List Loc) (ls : Array Slot), IT D cI cZ o s H locs ex_.1 → lv_has ls 7 [(0, .ref o), (4, .int ex_.2)] → W p l e ({ frames := 694, cells := 0, slots := 0, locals := 20095 } : Room) s m args below meth c H locs 0 0 Q (F0 m 50 ls [])) (hs10 a1 a2 a3) FU _ e10 he10 ?_ H locs ls hI (lv_sub hl [2, 3, 4, 5, 1, 0] rfl)
  · skip
    intro H locs ls hI hl
    refine lv_aload_n hx hb dX7_firstBy_50 rfl (lv_at hl 0 rfl) ?_
    obtain ⟨t51, et51, hf⟩ := obd hf
    refine tcallV (rest := []) hx hb hts hown hE hz hI hml hl.1 (mX7_comesBack e10.1 _ et51) (cwX7_comesBack hts ⟨Nat.le_of_ble_eq_true rfl, Nat.le_of_ble_eq_true rfl⟩) ⟨Nat.le_of_ble_eq_true rfl, Nat.le_of_ble_eq_true rfl⟩ rfl rfl (lv_room (Nat.le_of_ble_eq_true rfl)) dX7_firstBy_51 (fun H locs hI => ?_)
    refine lv_iload hx hb dX7_firstBy_54 (lv_at hl 1 rfl) ?_
    have hf := Prod.mk.inj (Option.some.inj hf)
    rw [hf.1]
    exact hret H locs 56 ls (hf.2 ▸ hI) dX7_firstBy_56
theorem cwX7_firstBy {R : Room} {s : State} {args : Array Value} {fr lo : Nat} (hts : ∀ w ∈ lw_all, w.before args s = true) (hR : fr + 1 ≤ R.frames ∧ 8 + (7 + 11) + lo ≤ R.locals) : CallW R s args RX7 RX7 343 yX7_firstBy cX7_firstBy 7 (some .int) (ws_ yX7_firstBy cX7_firstBy 7 (some .int)) ({ frames := fr, cells := 0, slots := 0, locals := lo }) 0 0 3 :=
  cwV 3 hts (lw_V q2448 q2450 qs107 q143 q2451) rfl rfl rfl (by decide +kernel) hR

def X7_whenOf (τ : Mm) (a1 : Int32) : Option (Int32 × Mm) :=
  (X7_firstBy τ a1 (9 : Int32) (-1 : Int32)).bind fun x5 =>
  some (x5.1, x5.2)
set_option maxHeartbeats 4000000 in
theorem mX7_whenOf (τ : Mm) (a1 : Int32) (r : Int32) (τ' : Mm) (hf : X7_whenOf τ a1 = some (r, τ')) : TMi yX7_whenOf cX7_whenOf 2 (some .int) 695 20121 (fun aK => [.int a1]) r τ τ' := by
  refine TMi.of (by decide) rfl (fun _ _ => Nat.le_of_ble_eq_true rfl) ?_
  intro p l e s m args below meth c D cI cZ o z aK aV Q ls hz hx hb hml hown hts hE hret hI hl
  obtain ⟨H, eH⟩ : ∃ H, H = s.heap := ⟨_, rfl⟩
  obtain ⟨locs, eL⟩ : ∃ L : List Loc, L = [] := ⟨_, rfl⟩
  rw [← eH, ← eL] at hI ⊢
  have hl : lv_has ls 2 [(0, .ref o), (1, .int a1)] := hl
  unfold X7_whenOf at hf
  refine lv_aload_n hx hb dX7_whenOf_0 rfl (lv_at hl 0 rfl) ?_
  refine lv_iload_n hx hb dX7_whenOf_1 rfl (lv_at hl 1 rfl) ?_
  refine lv_bipush (v := (9 : Int32)) hx hb dX7_whenOf_2 (by decide) ?_
  refine lv_iconst (v := (-1 : Int32)) hx hb dX7_whenOf_4 (by decide) ?_
  obtain ⟨x5, ex5, hf⟩ := obd hf
  refine tcallI (rest := []) hx hb hts hown hE hz hI hml hl.1 (mX7_firstBy τ a1 (9 : Int32) (-1 : Int32) _ _ ex5) (cwX7_firstBy hts ⟨Nat.le_of_ble_eq_true rfl, Nat.le_of_ble_eq_true rfl⟩) ⟨Nat.le_of_ble_eq_true rfl, Nat.le_of_ble_eq_true rfl⟩ rfl rfl (lv_room (Nat.le_of_ble_eq_true rfl)) dX7_whenOf_5 (fun H locs hI => ?_)
  have hf := Prod.mk.inj (Option.some.inj hf)
  rw [hf.1]
  exact hret H locs 8 ls (hf.2 ▸ hI) dX7_whenOf_8
theorem cwX7_whenOf {R : Room} {s : State} {args : Array Value} {fr lo : Nat} (hts : ∀ w ∈ lw_all, w.before args s = true) (hR : fr + 1 ≤ R.frames ∧ 8 + (2 + 11) + lo ≤ R.locals) : CallW R s args RX7 RX7 347 yX7_whenOf cX7_whenOf 2 (some .int) (ws_ yX7_whenOf cX7_whenOf 2 (some .int)) ({ frames := fr, cells := 0, slots := 0, locals := lo }) 0 0 1 :=
  cwV 1 hts (lw_V q2444 q2446 qs106 q143 q2447) rfl rfl rfl (by decide +kernel) hR

def X7_priceOf (τ : Mm) (a1 : Int32) : Option (Int32 × Mm) :=
  (X7_of τ a1 (10 : Int32)).bind fun x4 =>
  if x4 = (0 : Int32) then
    (X7_whenOf τ a1).bind fun x14 =>
    if x14.1 = (-1 : Int32) then
      some ((0 : Int32), x14.2)
    else
      (X7_of x14.2 a1 (3 : Int32)).bind fun x31 =>
      (X7_greater (0 : Int32) (x31 - x14.1)).bind fun x36 =>
      some (x36, x14.2)
  else
    some ((0 : Int32), τ)
set_option maxHeartbeats 4000000 in
theorem mX7_priceOf (τ : Mm) (a1 : Int32) (r : Int32) (τ' : Mm) (hf : X7_priceOf τ a1 = some (r, τ')) : TMi yX7_priceOf cX7_priceOf 3 (some .int) 696 20142 (fun aK => [.int a1]) r τ τ' := by
  refine TMi.of (by decide) rfl (fun _ _ => Nat.le_of_ble_eq_true rfl) ?_
  intro p l e s m args below meth c D cI cZ o z aK aV Q ls hz hx hb hml hown hts hE hret hI hl
  obtain ⟨H, eH⟩ : ∃ H, H = s.heap := ⟨_, rfl⟩
  obtain ⟨locs, eL⟩ : ∃ L : List Loc, L = [] := ⟨_, rfl⟩
  rw [← eH, ← eL] at hI ⊢
  have hl : lv_has ls 3 [(0, .ref o), (1, .int a1)] := hl
  unfold X7_priceOf at hf
  refine lv_aload_n hx hb dX7_priceOf_0 rfl (lv_at hl 0 rfl) ?_
  refine lv_iload_n hx hb dX7_priceOf_1 rfl (lv_at hl 1 rfl) ?_
  refine lv_bipush (v := (10 : Int32)) hx hb dX7_priceOf_2 (by decide) ?_
  obtain ⟨x4, ex4, hf⟩ := obd hf
  refine tcallI (rest := []) hx hb hts hown hE hz hI hml hl.1 (mX7_of τ a1 (10 : Int32) _ ex4) (cwX7_of hts ⟨Nat.le_of_ble_eq_true rfl, Nat.le_of_ble_eq_true rfl⟩) ⟨Nat.le_of_ble_eq_true rfl, Nat.le_of_ble_eq_true rfl⟩ rfl rfl (lv_room (Nat.le_of_ble_eq_true rfl)) dX7_priceOf_4 (fun H locs hI => ?_)
  refine lv_if_eq (tgt := 12) hx hb dX7_priceOf_7 (by decide) (fun hc => ?_) (fun hc => ?_)
  · replace hf := ipos hc hf
    refine lv_aload_n hx hb dX7_priceOf_12 rfl (lv_at hl 0 rfl) ?_
    refine lv_iload_n hx hb dX7_priceOf_13 rfl (lv_at hl 1 rfl) ?_
    obtain ⟨x14, ex14, hf⟩ := obd hf
    refine tcallI (rest := []) hx hb hts hown hE hz hI hml hl.1 (mX7_whenOf τ a1 _ _ ex14) (cwX7_whenOf hts ⟨Nat.le_of_ble_eq_true rfl, Nat.le_of_ble_eq_true rfl⟩) ⟨Nat.le_of_ble_eq_true rfl, Nat.le_of_ble_eq_true rfl⟩ rfl rfl (lv_room (Nat.le_of_ble_eq_true rfl)) dX7_priceOf_14 (fun H locs hI => ?_)
    refine lv_istore_n (lv' := [(2, .int x14.1), (0, .ref o), (1, .int a1)]) hx hb dX7_priceOf_17 rfl hl (by decide) rfl (fun ls hl => ?_)
    refine lv_iload_n hx hb dX7_priceOf_18 rfl (lv_at hl 0 rfl) ?_
    refine lv_iconst (v := (-1 : Int32)) hx hb dX7_priceOf_19 (by decide) ?_
    refine lv_icmp_ne (tgt := 27) hx hb dX7_priceOf_20 (by decide) (fun hc => ?_) (fun hc => ?_)
    · replace hf := ineg hc hf
      refine lv_iconst (v := (0 : Int32)) hx hb dX7_priceOf_27 (by decide) ?_
      refine lv_aload_n hx hb dX7_priceOf_28 rfl (lv_at hl 1 rfl) ?_
      refine lv_iload_n hx hb dX7_priceOf_29 rfl (lv_at hl 2 rfl) ?_
      refine lv_iconst (v := (3 : Int32)) hx hb dX7_priceOf_30 (by decide) ?_
      obtain ⟨x31, ex31, hf⟩ := obd hf
      refine tcallI (rest := [.int (0 : Int32)]) hx hb hts hown hE hz hI hml hl.1 (mX7_of x14.2 a1 (3 : Int32) _ ex31) (cwX7_of hts ⟨Nat.le_of_ble_eq_true rfl, Nat.le_of_ble_eq_true rfl⟩) ⟨Nat.le_of_ble_eq_true rfl, Nat.le_of_ble_eq_true rfl⟩ rfl rfl (lv_room (Nat.le_of_ble_eq_true rfl)) dX7_priceOf_31 (fun H locs hI => ?_)
      refine lv_iload_n hx hb dX7_priceOf_34 rfl (lv_at hl 0 rfl) ?_
      refine lv_isub hx hb dX7_priceOf_35 ?_
      obtain ⟨x36, ex36, hf⟩ := obd hf
      refine tcallS (rest := []) hx hb hts hown hml hl.1 (mX7_greater (0 : Int32) (x31 - x14.1) _ ex36) (cwX7_greater hts ⟨Nat.le_of_ble_eq_true rfl, Nat.le_of_ble_eq_true rfl⟩) ⟨Nat.le_of_ble_eq_true rfl, Nat.le_of_ble_eq_true rfl⟩ rfl rfl (lv_room (Nat.le_of_ble_eq_true rfl)) dX7_priceOf_36 ?_
      have hf := Prod.mk.inj (Option.some.inj hf)
      rw [hf.1]
      exact hret H locs 39 ls (hf.2 ▸ hI) dX7_priceOf_39
    · replace hf := ipos hc hf
      refine lv_iconst (v := (0 : Int32)) hx hb dX7_priceOf_23 (by decide) ?_
      refine lv_goto (tgt := 39) hx hb dX7_priceOf_24 (by decide) ?_
      have hf := Prod.mk.inj (Option.some.inj hf)
      rw [hf.1]
      exact hret H locs 39 ls (hf.2 ▸ hI) dX7_priceOf_39
  · replace hf := ineg hc hf
    refine lv_iconst (v := (0 : Int32)) hx hb dX7_priceOf_10 (by decide) ?_
    have hf := Prod.mk.inj (Option.some.inj hf)
    rw [hf.1]
    exact hret H locs 11 ls (hf.2 ▸ hI) dX7_priceOf_11
theorem cwX7_priceOf {R : Room} {s : State} {args : Array Value} {fr lo : Nat} (hts : ∀ w ∈ lw_all, w.before args s = true) (hR : fr + 1 ≤ R.frames ∧ 8 + (3 + 11) + lo ≤ R.locals) : CallW R s args RX7 RX7 328 yX7_priceOf cX7_priceOf 3 (some .int) (ws_ yX7_priceOf cX7_priceOf 3 (some .int)) ({ frames := fr, cells := 0, slots := 0, locals := lo }) 0 0 1 :=
  cwV 1 hts (lw_V q2440 q2442 qs105 q143 q2443) rfl rfl rfl (by decide +kernel) hR

def X7_deed_J28 (τ : Mm) (a1 : Int32) (a2 : Int32) (y0 : Int32) : Option (Int32 × Mm) :=
  (some (mup τ 10 0 y0)).bind fun t28 =>
  if (t28 10 0) ≤ (0 : Int32) then
    if (12 : Int32) ≤ a2 then
      (X7_asks t28 a1).bind fun t55 =>
      if a2 = (12 : Int32) then
        some ((t55 10 17), t55)
      else
        if a2 = (13 : Int32) then
          some ((t55 10 18), t55)
        else
          if a2 = (14 : Int32) then
            (X7_isValidNow t55 a1).bind fun x88 =>
            if x88 = (0 : Int32) then
              some ((0 : Int32), t55)
            else
              some ((1 : Int32), t55)
          else
            (X7_priceOf t55 a1).bind fun x104 =>
            some (x104.1, x104.2)
    else
      (X7_of t28 a1 a2).bind fun x49 =>
      some (x49, t28)
  else
    some ((0 : Int32), t28)
def X7_deed (τ : Mm) (a1 : Int32) (a2 : Int32) : Option (Int32 × Mm) :=
  (X7_isDeed τ a1).bind fun x3 =>
  if x3 = (0 : Int32) then
    X7_deed_J28 τ a1 a2 (1 : Int32)
  else
    (X7_isIn a2 (0 : Int32) (15 : Int32)).bind fun x17 =>
    if x17 = (0 : Int32) then
      X7_deed_J28 τ a1 a2 (2 : Int32)
    else
      X7_deed_J28 τ a1 a2 (0 : Int32)
set_option maxHeartbeats 4000000 in
theorem mX7_deed (τ : Mm) (a1 : Int32) (a2 : Int32) (r : Int32) (τ' : Mm) (hf : X7_deed τ a1 a2 = some (r, τ')) : TMi yX7_deed cX7_deed 3 (some .int) 697 20164 (fun aK => [.int a1, .int a2]) r τ τ' := by
  refine TMi.of (by decide) rfl (fun _ _ => Nat.le_of_ble_eq_true rfl) ?_
  intro p l e s m args below meth c D cI cZ o z aK aV Q ls hz hx hb hml hown hts hE hret hI hl
  obtain ⟨H, eH⟩ : ∃ H, H = s.heap := ⟨_, rfl⟩
  obtain ⟨locs, eL⟩ : ∃ L : List Loc, L = [] := ⟨_, rfl⟩
  rw [← eH, ← eL] at hI ⊢
  have hl : lv_has ls 3 [(0, .ref o), (1, .int a1), (2, .int a2)] := hl
  unfold X7_deed at hf
  have hJ28 : ∀ (τ : Mm) (y0 : Int32) (H : Heap) (locs : List Loc) (ls : Array Slot), X7_deed_J28 τ a1 a2 y0 = some (r, τ') → IT D cI cZ o s H locs τ → lv_has ls 3 [(0, .ref o), (1, .int a1), (2, .int a2)] → W p l e ({ frames := 697, cells := 0, slots := 0, locals := 20164 } : Room) s m args below meth c H locs 0 0 Q (F0 m 28 ls [.int y0, .ref o]) := by
    intro τ y0 H locs ls hf hI hl
    unfold X7_deed_J28 at hf
    obtain ⟨t28, et28, hf⟩ := obd hf
    refine tput hx hb hts hown hE hI 0 (by decide) q2100 rfl (tyX7_ok 0 (by decide)) rfl rfl rfl et28 dX7_deed_28 (fun H locs hI => ?_)
    refine lv_aload_n hx hb dX7_deed_31 rfl (lv_at hl 0 rfl) ?_
    refine tget hx hb hts hown hE hI 0 (by decide) q2100 rfl dX7_deed_32 ?_
    refine lv_if_le (tgt := 40) hx hb dX7_deed_35 (by decide) (fun hc => ?_) (fun hc => ?_)
    · replace hf := ipos hc hf
      refine lv_iload_n hx hb dX7_deed_40 rfl (lv_at hl 2 rfl) ?_
      refine lv_bipush (v := (12 : Int32)) hx hb dX7_deed_41 (by decide) ?_
      refine lv_icmp_ge (tgt := 53) hx hb dX7_deed_43 (by decide) (fun hc => ?_) (fun hc => ?_)
      · replace hf := ipos hc hf
        refine lv_aload_n hx hb dX7_deed_53 rfl (lv_at hl 0 rfl) ?_
        refine lv_iload_n hx hb dX7_deed_54 rfl (lv_at hl 1 rfl) ?_
        obtain ⟨t55, et55, hf⟩ := obd hf
        refine tcallV (rest := []) hx hb hts hown hE hz hI hml hl.1 (mX7_asks t28 a1 _ et55) (cwX7_asks hts ⟨Nat.le_of_ble_eq_true rfl, Nat.le_of_ble_eq_true rfl⟩) ⟨Nat.le_of_ble_eq_true rfl, Nat.le_of_ble_eq_true rfl⟩ rfl rfl (lv_room (Nat.le_of_ble_eq_true rfl)) dX7_deed_55 (fun H locs hI => ?_)
        refine lv_iload_n hx hb dX7_deed_58 rfl (lv_at hl 2 rfl) ?_
        refine lv_bipush (v := (12 : Int32)) hx hb dX7_deed_59 (by decide) ?_
        refine lv_icmp_ne (tgt := 69) hx hb dX7_deed_61 (by decide) (fun hc => ?_) (fun hc => ?_)
        · replace hf := ineg hc hf
          refine lv_iload_n hx hb dX7_deed_69 rfl (lv_at hl 2 rfl) ?_
          refine lv_bipush (v := (13 : Int32)) hx hb dX7_deed_70 (by decide) ?_
          refine lv_icmp_ne (tgt := 80) hx hb dX7_deed_72 (by decide) (fun hc => ?_) (fun hc => ?_)
          · replace hf := ineg hc hf
            refine lv_iload_n hx hb dX7_deed_80 rfl (lv_at hl 2 rfl) ?_
            refine lv_bipush (v := (14 : Int32)) hx hb dX7_deed_81 (by decide) ?_
            refine lv_icmp_ne (tgt := 102) hx hb dX7_deed_83 (by decide) (fun hc => ?_) (fun hc => ?_)
            · replace hf := ineg hc hf
              refine lv_aload_n hx hb dX7_deed_102 rfl (lv_at hl 0 rfl) ?_
              refine lv_iload_n hx hb dX7_deed_103 rfl (lv_at hl 1 rfl) ?_
              obtain ⟨x104, ex104, hf⟩ := obd hf
              refine tcallI (rest := []) hx hb hts hown hE hz hI hml hl.1 (mX7_priceOf t55 a1 _ _ ex104) (cwX7_priceOf hts ⟨Nat.le_of_ble_eq_true rfl, Nat.le_of_ble_eq_true rfl⟩) ⟨Nat.le_of_ble_eq_true rfl, Nat.le_of_ble_eq_true rfl⟩ rfl rfl (lv_room (Nat.le_of_ble_eq_true rfl)) dX7_deed_104 (fun H locs hI => ?_)
              have hf := Prod.mk.inj (Option.some.inj hf)
              rw [hf.1]
              exact hret H locs 107 ls (hf.2 ▸ hI) dX7_deed_107
            · replace hf := ipos hc hf
              refine lv_aload_n hx hb dX7_deed_86 rfl (lv_at hl 0 rfl) ?_
              refine lv_iload_n hx hb dX7_deed_87 rfl (lv_at hl 1 rfl) ?_
              obtain ⟨x88, ex88, hf⟩ := obd hf
              refine tcallI (rest := []) hx hb hts hown hE hz hI hml hl.1 (mX7_isValidNow t55 a1 _ ex88) (cwX7_isValidNow hts ⟨Nat.le_of_ble_eq_true rfl, Nat.le_of_ble_eq_true rfl⟩) ⟨Nat.le_of_ble_eq_true rfl, Nat.le_of_ble_eq_true rfl⟩ rfl rfl (lv_room (Nat.le_of_ble_eq_true rfl)) dX7_deed_88 (fun H locs hI => ?_)
              refine lv_if_eq (tgt := 98) hx hb dX7_deed_91 (by decide) (fun hc => ?_) (fun hc => ?_)
              · replace hf := ipos hc hf
                refine lv_iconst (v := (0 : Int32)) hx hb dX7_deed_98 (by decide) ?_
                refine lv_goto (tgt := 107) hx hb dX7_deed_99 (by decide) ?_
                have hf := Prod.mk.inj (Option.some.inj hf)
                rw [hf.1]
                exact hret H locs 107 ls (hf.2 ▸ hI) dX7_deed_107
              · replace hf := ineg hc hf
                refine lv_iconst (v := (1 : Int32)) hx hb dX7_deed_94 (by decide) ?_
                refine lv_goto (tgt := 107) hx hb dX7_deed_95 (by decide) ?_
                have hf := Prod.mk.inj (Option.some.inj hf)
                rw [hf.1]
                exact hret H locs 107 ls (hf.2 ▸ hI) dX7_deed_107
          · replace hf := ipos hc hf
            refine lv_aload_n hx hb dX7_deed_75 rfl (lv_at hl 0 rfl) ?_
            refine tget hx hb hts hown hE hI 18 (by decide) q2118 rfl dX7_deed_76 ?_
            have hf := Prod.mk.inj (Option.some.inj hf)
            rw [hf.1]
            exact hret H locs 79 ls (hf.2 ▸ hI) dX7_deed_79
        · replace hf := ipos hc hf
          refine lv_aload_n hx hb dX7_deed_64 rfl (lv_at hl 0 rfl) ?_
          refine tget hx hb hts hown hE hI 17 (by decide) q2117 rfl dX7_deed_65 ?_
          have hf := Prod.mk.inj (Option.some.inj hf)
          rw [hf.1]
          exact hret H locs 68 ls (hf.2 ▸ hI) dX7_deed_68
      · replace hf := ineg hc hf
        refine lv_aload_n hx hb dX7_deed_46 rfl (lv_at hl 0 rfl) ?_
        refine lv_iload_n hx hb dX7_deed_47 rfl (lv_at hl 1 rfl) ?_
        refine lv_iload_n hx hb dX7_deed_48 rfl (lv_at hl 2 rfl) ?_
        obtain ⟨x49, ex49, hf⟩ := obd hf
        refine tcallI (rest := []) hx hb hts hown hE hz hI hml hl.1 (mX7_of t28 a1 a2 _ ex49) (cwX7_of hts ⟨Nat.le_of_ble_eq_true rfl, Nat.le_of_ble_eq_true rfl⟩) ⟨Nat.le_of_ble_eq_true rfl, Nat.le_of_ble_eq_true rfl⟩ rfl rfl (lv_room (Nat.le_of_ble_eq_true rfl)) dX7_deed_49 (fun H locs hI => ?_)
        have hf := Prod.mk.inj (Option.some.inj hf)
        rw [hf.1]
        exact hret H locs 52 ls (hf.2 ▸ hI) dX7_deed_52
    · replace hf := ineg hc hf
      refine lv_iconst (v := (0 : Int32)) hx hb dX7_deed_38 (by decide) ?_
      have hf := Prod.mk.inj (Option.some.inj hf)
      rw [hf.1]
      exact hret H locs 39 ls (hf.2 ▸ hI) dX7_deed_39
  refine lv_aload_n hx hb dX7_deed_0 rfl (lv_at hl 0 rfl) ?_
  refine lv_aload_n hx hb dX7_deed_1 rfl (lv_at hl 0 rfl) ?_
  refine lv_iload_n hx hb dX7_deed_2 rfl (lv_at hl 1 rfl) ?_
  obtain ⟨x3, ex3, hf⟩ := obd hf
  refine tcallI (rest := [.ref o]) hx hb hts hown hE hz hI hml hl.1 (mX7_isDeed τ a1 _ ex3) (cwX7_isDeed hts ⟨Nat.le_of_ble_eq_true rfl, Nat.le_of_ble_eq_true rfl⟩) ⟨Nat.le_of_ble_eq_true rfl, Nat.le_of_ble_eq_true rfl⟩ rfl rfl (lv_room (Nat.le_of_ble_eq_true rfl)) dX7_deed_3 (fun H locs hI => ?_)
  refine lv_if_ne (tgt := 13) hx hb dX7_deed_6 (by decide) (fun hc => ?_) (fun hc => ?_)
  · replace hf := ineg hc hf
    refine lv_iload_n hx hb dX7_deed_13 rfl (lv_at hl 2 rfl) ?_
    refine lv_iconst (v := (0 : Int32)) hx hb dX7_deed_14 (by decide) ?_
    refine lv_bipush (v := (15 : Int32)) hx hb dX7_deed_15 (by decide) ?_
    obtain ⟨x17, ex17, hf⟩ := obd hf
    refine tcallS (rest := [.ref o]) hx hb hts hown hml hl.1 (mX7_isIn a2 (0 : Int32) (15 : Int32) _ ex17) (cwX7_isIn hts ⟨Nat.le_of_ble_eq_true rfl, Nat.le_of_ble_eq_true rfl⟩) ⟨Nat.le_of_ble_eq_true rfl, Nat.le_of_ble_eq_true rfl⟩ rfl rfl (lv_room (Nat.le_of_ble_eq_true rfl)) dX7_deed_17 ?_
    refine lv_if_ne (tgt := 27) hx hb dX7_deed_20 (by decide) (fun hc => ?_) (fun hc => ?_)
    · replace hf := ineg hc hf
      refine lv_iconst (v := (0 : Int32)) hx hb dX7_deed_27 (by decide) ?_
      exact hJ28 τ (0 : Int32) H locs ls hf hI  (lv_sub hl [0, 1, 2] rfl)
    · replace hf := ipos hc hf
      refine lv_iconst (v := (2 : Int32)) hx hb dX7_deed_23 (by decide) ?_
      refine lv_goto (tgt := 28) hx hb dX7_deed_24 (by decide) ?_
      exact hJ28 τ (2 : Int32) H locs ls hf hI  (lv_sub hl [0, 1, 2] rfl)
  · replace hf := ipos hc hf
    refine lv_iconst (v := (1 : Int32)) hx hb dX7_deed_9 (by decide) ?_
    refine lv_goto (tgt := 28) hx hb dX7_deed_10 (by decide) ?_
    exact hJ28 τ (1 : Int32) H locs ls hf hI  (lv_sub hl [0, 1, 2] rfl)


def X7_remembers_L52 (w52 : Mm × Int32) : Option ((Mm × Int32) ⊕ (Mm)) :=
  if (381 : Int32) ≤ w52.2 then
    some (.inr w52.1)
  else
    (ld 781 (w52.1 0) w52.2).bind fun x78 =>
    (sto 4572 w52.1 3 (((381 : Int32) * (w52.1 10 6)) + w52.2) x78).bind fun t79 =>
    (some (w52.2 + (1 : Int32))).bind fun v80 =>
    some (.inl (t79, v80))
def X7_remembers_J50 (τ : Mm) : Option (Mm) :=
  (loopO (X7_remembers_L52) FU (τ, (0 : Int32))).bind fun e52 =>
  (some (mup e52 10 6 ((e52 10 6) + (1 : Int32)))).bind fun t93 =>
  some t93
def X7_remembers_L11 (w11 : Mm × Int32) : Option ((Mm × Int32) ⊕ (Mm)) :=
  if (4191 : Int32) ≤ w11.2 then
    some (.inr w11.1)
  else
    (ld 4572 (w11.1 3) (w11.2 + (381 : Int32))).bind fun x32 =>
    (sto 4572 w11.1 3 w11.2 x32).bind fun t33 =>
    (some (w11.2 + (1 : Int32))).bind fun v34 =>
    some (.inl (t33, v34))
def X7_remembers (τ : Mm) : Option (Mm) :=
  if (τ 10 6) = (12 : Int32) then
    (loopO (X7_remembers_L11) FU (τ, (0 : Int32))).bind fun e11 =>
    (some (mup e11 10 6 ((e11 10 6) - (1 : Int32)))).bind fun t47 =>
    X7_remembers_J50 t47
  else
    X7_remembers_J50 τ
set_option maxHeartbeats 4000000 in
theorem mX7_remembers (τ : Mm) (τ' : Mm) (hf : X7_remembers τ = some τ') : TMv yX7_remembers cX7_remembers 2 none 1 40 (fun aK => []) τ τ' := by
  refine TMv.of (by decide) rfl (fun _ _ => Nat.le_of_ble_eq_true rfl) ?_
  intro p l e s m args below meth c D cI cZ o z aK aV Q ls hz hx hb hml hown hts hE hret hI hl
  obtain ⟨H, eH⟩ : ∃ H, H = s.heap := ⟨_, rfl⟩
  obtain ⟨locs, eL⟩ : ∃ L : List Loc, L = [] := ⟨_, rfl⟩
  rw [← eH, ← eL] at hI ⊢
  have hl : lv_has ls 2 [(0, .ref o)] := hl
  unfold X7_remembers at hf
  have hJ50 : ∀ (τ : Mm) (H : Heap) (locs : List Loc) (ls : Array Slot), X7_remembers_J50 τ = some τ' → IT D cI cZ o s H locs τ → lv_has ls 2 [(0, .ref o)] → W p l e ({ frames := 1, cells := 0, slots := 0, locals := 40 } : Room) s m args below meth c H locs 0 0 Q (F0 m 50 ls []) := by
    intro τ  H locs ls hf hI hl
    unfold X7_remembers_J50 at hf
    refine lv_iconst (v := (0 : Int32)) hx hb dX7_remembers_50 (by decide) ?_
    refine lv_istore_n (lv' := [(1, .int (0 : Int32)), (0, .ref o)]) hx hb dX7_remembers_51 rfl hl (by decide) rfl (fun ls hl => ?_)
    obtain ⟨e52, he52, hf⟩ := obd hf
    refine loopO_W (Wat := fun w52 => ∀ (H : Heap) (locs : List Loc) (ls : Array Slot), IT D cI cZ o s H locs w52.1 → lv_has ls 2 [(0, .ref o), (1, .int w52.2)] → W p l e ({ frames := 1, cells := 0, slots := 0, locals := 40 } : Room) s m args below meth c H locs 0 0 Q (F0 m 52 ls [])) (Wex := fun ex_ => ∀ (H : Heap) (locs : List Loc) (ls : Array Slot), IT D cI cZ o s H locs ex_ → lv_has ls 2 [(0, .ref o)] → W p l e ({ frames := 1, cells := 0, slots := 0, locals := 40 } : Room) s m args below meth c H locs 0 0 Q (F0 m 86 ls [])) (fun w52 o52 hf hk hq => ?_) FU _ e52 he52 ?_ H locs ls hI (lv_sub hl [1, 0] rfl)
    · intro H locs ls hI hl
      unfold X7_remembers_L52 at hf
      refine lv_iload_n hx hb dX7_remembers_52 rfl (lv_at hl 1 rfl) ?_
      refine lv_sipush (v := (381 : Int32)) hx hb dX7_remembers_53 (by decide) ?_
      refine lv_icmp_ge (tgt := 86) hx hb dX7_remembers_56 (by decide) (fun hc => ?_) (fun hc => ?_)
      · replace hf := ipos hc hf
        exact hq _ (Option.some.inj hf).symm H locs ls hI (lv_sub hl [0] rfl)
      · replace hf := ineg hc hf
        refine lv_aload_n hx hb dX7_remembers_59 rfl (lv_at hl 0 rfl) ?_
        refine tget hx hb hts hown hE hI 5 (by decide) q2105 rfl dX7_remembers_60 ?_
        refine lv_sipush (v := (381 : Int32)) hx hb dX7_remembers_63 (by decide) ?_
        refine lv_aload_n hx hb dX7_remembers_66 rfl (lv_at hl 0 rfl) ?_
        refine tget hx hb hts hown hE hI 6 (by decide) q2106 rfl dX7_remembers_67 ?_
        refine lv_imul hx hb dX7_remembers_70 ?_
        refine lv_iload_n hx hb dX7_remembers_71 rfl (lv_at hl 1 rfl) ?_
        refine lv_iadd hx hb dX7_remembers_72 ?_
        refine lv_aload_n hx hb dX7_remembers_73 rfl (lv_at hl 0 rfl) ?_
        refine tget hx hb hts hown hE hI 1 (by decide) q2101 rfl dX7_remembers_74 ?_
        refine lv_iload_n hx hb dX7_remembers_77 rfl (lv_at hl 1 rfl) ?_
        obtain ⟨x78, ex78, hf⟩ := obd hf
        refine tald hx hb hE hI 1 781 rfl ex78 dX7_remembers_78 ?_
        obtain ⟨t79, et79, hf⟩ := obd hf
        refine tast hx hb hE hI 4 4572 3 rfl (fun _ => rfl) et79 dX7_remembers_79 (fun H locs hI => ?_)
        obtain ⟨v80, ev80, hf⟩ := obd hf
        refine lv_iinc (v := v80) (lv' := [(1, .int v80), (0, .ref o)]) hx hb dX7_remembers_80 hl (k := 1) rfl (iiE ev80 (by decide)) (by decide) rfl (fun ls hl => ?_)
        refine lv_goto (tgt := 52) hx hb dX7_remembers_83 (by decide) ?_
        exact hk _ (Option.some.inj hf).symm H locs ls hI (lv_sub hl [1, 0] rfl)
    · skip
      intro H locs ls hI hl
      refine lv_aload_n hx hb dX7_remembers_86 rfl (lv_at hl 0 rfl) ?_
      refine lv_dup hx hb dX7_remembers_87 rfl ?_
      refine tget hx hb hts hown hE hI 6 (by decide) q2106 rfl dX7_remembers_88 ?_
      refine lv_iconst (v := (1 : Int32)) hx hb dX7_remembers_91 (by decide) ?_
      refine lv_iadd hx hb dX7_remembers_92 ?_
      obtain ⟨t93, et93, hf⟩ := obd hf
      refine tput hx hb hts hown hE hI 6 (by decide) q2106 rfl (tyX7_ok 6 (by decide)) rfl rfl rfl et93 dX7_remembers_93 (fun H locs hI => ?_)
      exact hret H locs 96 ls ((Option.some.inj hf) ▸ hI) dX7_remembers_96
  refine lv_aload_n hx hb dX7_remembers_0 rfl (lv_at hl 0 rfl) ?_
  refine tget hx hb hts hown hE hI 6 (by decide) q2106 rfl dX7_remembers_1 ?_
  refine lv_bipush (v := (12 : Int32)) hx hb dX7_remembers_4 (by decide) ?_
  refine lv_icmp_ne (tgt := 50) hx hb dX7_remembers_6 (by decide) (fun hc => ?_) (fun hc => ?_)
  · replace hf := ineg hc hf
    exact hJ50 τ H locs ls hf hI  (lv_sub hl [0] rfl)
  · replace hf := ipos hc hf
    refine lv_iconst (v := (0 : Int32)) hx hb dX7_remembers_9 (by decide) ?_
    refine lv_istore_n (lv' := [(1, .int (0 : Int32)), (0, .ref o)]) hx hb dX7_remembers_10 rfl hl (by decide) rfl (fun ls hl => ?_)
    obtain ⟨e11, he11, hf⟩ := obd hf
    refine loopO_W (Wat := fun w11 => ∀ (H : Heap) (locs : List Loc) (ls : Array Slot), IT D cI cZ o s H locs w11.1 → lv_has ls 2 [(0, .ref o), (1, .int w11.2)] → W p l e ({ frames := 1, cells := 0, slots := 0, locals := 40 } : Room) s m args below meth c H locs 0 0 Q (F0 m 11 ls [])) (Wex := fun ex_ => ∀ (H : Heap) (locs : List Loc) (ls : Array Slot), IT D cI cZ o s H locs ex_ → lv_has ls 2 [(0, .ref o)] → W p l e ({ frames := 1, cells := 0, slots := 0, locals := 40 } : Room) s m args below meth c H locs 0 0 Q (F0 m 40 ls [])) (fun w11 o11 hf hk hq => ?_) FU _ e11 he11 ?_ H locs ls hI (lv_sub hl [1, 0] rfl)
    · intro H locs ls hI hl
      unfold X7_remembers_L11 at hf
      refine lv_iload_n hx hb dX7_remembers_11 rfl (lv_at hl 1 rfl) ?_
      refine lv_sipush (v := (4191 : Int32)) hx hb dX7_remembers_12 (by decide) ?_
      refine lv_icmp_ge (tgt := 40) hx hb dX7_remembers_15 (by decide) (fun hc => ?_) (fun hc => ?_)
      · replace hf := ipos hc hf
        exact hq _ (Option.some.inj hf).symm H locs ls hI (lv_sub hl [0] rfl)
      · replace hf := ineg hc hf
        refine lv_aload_n hx hb dX7_remembers_18 rfl (lv_at hl 0 rfl) ?_
        refine tget hx hb hts hown hE hI 5 (by decide) q2105 rfl dX7_remembers_19 ?_
        refine lv_iload_n hx hb dX7_remembers_22 rfl (lv_at hl 1 rfl) ?_
        refine lv_aload_n hx hb dX7_remembers_23 rfl (lv_at hl 0 rfl) ?_
        refine tget hx hb hts hown hE hI 5 (by decide) q2105 rfl dX7_remembers_24 ?_
        refine lv_iload_n hx hb dX7_remembers_27 rfl (lv_at hl 1 rfl) ?_
        refine lv_sipush (v := (381 : Int32)) hx hb dX7_remembers_28 (by decide) ?_
        refine lv_iadd hx hb dX7_remembers_31 ?_
        obtain ⟨x32, ex32, hf⟩ := obd hf
        refine tald hx hb hE hI 4 4572 rfl ex32 dX7_remembers_32 ?_
        obtain ⟨t33, et33, hf⟩ := obd hf
        refine tast hx hb hE hI 4 4572 3 rfl (fun _ => rfl) et33 dX7_remembers_33 (fun H locs hI => ?_)
        obtain ⟨v34, ev34, hf⟩ := obd hf
        refine lv_iinc (v := v34) (lv' := [(1, .int v34), (0, .ref o)]) hx hb dX7_remembers_34 hl (k := 1) rfl (iiE ev34 (by decide)) (by decide) rfl (fun ls hl => ?_)
        refine lv_goto (tgt := 11) hx hb dX7_remembers_37 (by decide) ?_
        exact hk _ (Option.some.inj hf).symm H locs ls hI (lv_sub hl [1, 0] rfl)
    · skip
      intro H locs ls hI hl
      refine lv_aload_n hx hb dX7_remembers_40 rfl (lv_at hl 0 rfl) ?_
      refine lv_dup hx hb dX7_remembers_41 rfl ?_
      refine tget hx hb hts hown hE hI 6 (by decide) q2106 rfl dX7_remembers_42 ?_
      refine lv_iconst (v := (1 : Int32)) hx hb dX7_remembers_45 (by decide) ?_
      refine lv_isub hx hb dX7_remembers_46 ?_
      obtain ⟨t47, et47, hf⟩ := obd hf
      refine tput hx hb hts hown hE hI 6 (by decide) q2106 rfl (tyX7_ok 6 (by decide)) rfl rfl rfl et47 dX7_remembers_47 (fun H locs hI => ?_)
      exact hJ50 t47 H locs ls hf hI  (lv_sub hl [0] rfl)
theorem cwX7_remembers {R : Room} {s : State} {args : Array Value} {fr lo : Nat} (hts : ∀ w ∈ lw_all, w.before args s = true) (hR : fr + 1 ≤ R.frames ∧ 8 + (2 + 11) + lo ≤ R.locals) : CallW R s args RX7 RX7 331 yX7_remembers cX7_remembers 2 (none) (ws_ yX7_remembers cX7_remembers 2 (none)) ({ frames := fr, cells := 0, slots := 0, locals := lo }) 0 0 0 :=
  cwV 0 hts (lw_V q2480 q2482 qs113 q143 q2483) rfl rfl rfl (by decide +kernel) hR

def X7_goes_L5 (c1 : Int32) (c2 : Int32) (w5 : Mm × Int32 × Int32) : Option ((Mm × Int32 × Int32) ⊕ (Mm × Int32)) :=
  if c1 ≤ w5.2.2 then
    some (.inr (w5.1, w5.2.1))
  else
    (X7_passes w5.1 c2).bind fun x14 =>
    (some (w5.2.1 + x14.1)).bind fun v18 =>
    (some (w5.2.2 + (1 : Int32))).bind fun v19 =>
    some (.inl (x14.2, v18, v19))
def X7_goes (τ : Mm) (a1 : Int32) (a2 : Int32) : Option (Int32 × Mm) :=
  (loopO (X7_goes_L5 a1 a2) FU (τ, (0 : Int32), (0 : Int32))).bind fun e5 =>
  some (e5.2, e5.1)
set_option maxHeartbeats 4000000 in
theorem mX7_goes (τ : Mm) (a1 : Int32) (a2 : Int32) (r : Int32) (τ' : Mm) (hf : X7_goes τ a1 a2 = some (r, τ')) : TMi yX7_goes cX7_goes 5 (some .int) 694 20095 (fun aK => [.int a1, .int a2]) r τ τ' := by
  refine TMi.of (by decide) rfl (fun _ _ => Nat.le_of_ble_eq_true rfl) ?_
  intro p l e s m args below meth c D cI cZ o z aK aV Q ls hz hx hb hml hown hts hE hret hI hl
  obtain ⟨H, eH⟩ : ∃ H, H = s.heap := ⟨_, rfl⟩
  obtain ⟨locs, eL⟩ : ∃ L : List Loc, L = [] := ⟨_, rfl⟩
  rw [← eH, ← eL] at hI ⊢
  have hl : lv_has ls 5 [(0, .ref o), (1, .int a1), (2, .int a2)] := hl
  unfold X7_goes at hf
  refine lv_iconst (v := (0 : Int32)) hx hb dX7_goes_0 (by decide) ?_
  refine lv_istore_n (lv' := [(3, .int (0 : Int32)), (0, .ref o), (1, .int a1), (2, .int a2)]) hx hb dX7_goes_1 rfl hl (by decide) rfl (fun ls hl => ?_)
  refine lv_iconst (v := (0 : Int32)) hx hb dX7_goes_2 (by decide) ?_
  refine lv_istore (lv' := [(4, .int (0 : Int32)), (3, .int (0 : Int32)), (0, .ref o), (1, .int a1), (2, .int a2)]) hx hb dX7_goes_3 hl (by decide) rfl (fun ls hl => ?_)
  obtain ⟨e5, he5, hf⟩ := obd hf
  have hs5 : ∀ (c1 : Int32) (c2 : Int32), ∀ (w5 : Mm × Int32 × Int32) (o5 : (Mm × Int32 × Int32) ⊕ (Mm × Int32)), X7_goes_L5 c1 c2 w5 = some o5 → (∀ wx_, o5 = .inl wx_ → ∀ (H : Heap) (locs : List Loc) (ls : Array Slot), IT D cI cZ o s H locs wx_.1 → lv_has ls 5 [(0, .ref o), (1, .int c1), (2, .int c2), (3, .int wx_.2.1), (4, .int wx_.2.2)] → W p l e ({ frames := 694, cells := 0, slots := 0, locals := 20095 } : Room) s m args below meth c H locs 0 0 Q (F0 m 5 ls [])) → (∀ ex_, o5 = .inr ex_ → ∀ (H : Heap) (locs : List Loc) (ls : Array Slot), IT D cI cZ o s H locs ex_.1 → lv_has ls 5 [(3, .int ex_.2)] → W p l e ({ frames := 694, cells := 0, slots := 0, locals := 20095 } : Room) s m args below meth c H locs 0 0 Q (F0 m 25 ls [])) → ∀ (H : Heap) (locs : List Loc) (ls : Array Slot), IT D cI cZ o s H locs w5.1 → lv_has ls 5 [(0, .ref o), (1, .int c1), (2, .int c2), (3, .int w5.2.1), (4, .int w5.2.2)] → W p l e ({ frames := 694, cells := 0, slots := 0, locals := 20095 } : Room) s m args below meth c H locs 0 0 Q (F0 m 5 ls []) := by
    intro c1 c2 w5 o5 hf hk hq H locs ls hI hl
    unfold X7_goes_L5 at hf
    refine lv_iload hx hb dX7_goes_5 (lv_at hl 4 rfl) ?_
    refine lv_iload_n hx hb dX7_goes_7 rfl (lv_at hl 1 rfl) ?_
    refine lv_icmp_ge (tgt := 25) hx hb dX7_goes_8 (by decide) (fun hc => ?_) (fun hc => ?_)
    · replace hf := ipos hc hf
      exact hq _ (Option.some.inj hf).symm H locs ls hI (lv_sub hl [3] rfl)
    · replace hf := ineg hc hf
      refine lv_iload_n hx hb dX7_goes_11 rfl (lv_at hl 3 rfl) ?_
      refine lv_aload_n hx hb dX7_goes_12 rfl (lv_at hl 0 rfl) ?_
      refine lv_iload_n hx hb dX7_goes_13 rfl (lv_at hl 2 rfl) ?_
      obtain ⟨x14, ex14, hf⟩ := obd hf
      refine tcallI (rest := [.int w5.2.1]) hx hb hts hown hE hz hI hml hl.1 (mX7_passes w5.1 c2 _ _ ex14) (cwX7_passes hts ⟨Nat.le_of_ble_eq_true rfl, Nat.le_of_ble_eq_true rfl⟩) ⟨Nat.le_of_ble_eq_true rfl, Nat.le_of_ble_eq_true rfl⟩ rfl rfl (lv_room (Nat.le_of_ble_eq_true rfl)) dX7_goes_14 (fun H locs hI => ?_)
      refine lv_iadd hx hb dX7_goes_17 ?_
      obtain ⟨v18, ev18, hf⟩ := obd hf
      refine nmI ev18 ?_
      refine lv_istore_n (lv' := [(3, .int v18), (0, .ref o), (1, .int c1), (2, .int c2), (4, .int w5.2.2)]) hx hb dX7_goes_18 rfl hl (by decide) rfl (fun ls hl => ?_)
      obtain ⟨v19, ev19, hf⟩ := obd hf
      refine lv_iinc (v := v19) (lv' := [(4, .int v19), (3, .int v18), (0, .ref o), (1, .int c1), (2, .int c2)]) hx hb dX7_goes_19 hl (k := 4) rfl (iiE ev19 (by decide)) (by decide) rfl (fun ls hl => ?_)
      refine lv_goto (tgt := 5) hx hb dX7_goes_22 (by decide) ?_
      exact hk _ (Option.some.inj hf).symm H locs ls hI (lv_sub hl [2, 3, 4, 1, 0] rfl)
  refine loopO_W (Wat := fun w5 => ∀ (H : Heap) (locs : List Loc) (ls : Array Slot), IT D cI cZ o s H locs w5.1 → lv_has ls 5 [(0, .ref o), (1, .int a1), (2, .int a2), (3, .int w5.2.1), (4, .int w5.2.2)] → W p l e ({ frames := 694, cells := 0, slots := 0, locals := 20095 } : Room) s m args below meth c H locs 0 0 Q (F0 m 5 ls [])) (Wex := fun ex_ => ∀ (H : Heap) (locs : List Loc) (ls : Array Slot), IT D cI cZ o s H locs ex_.1 → lv_has ls 5 [(3, .int ex_.2)] → W p l e ({ frames := 694, cells := 0, slots := 0, locals := 20095 } : Room) s m args below meth c H locs 0 0 Q (F0 m 25 ls [])) (hs5 a1 a2) FU _ e5 he5 ?_ H locs ls hI (lv_sub hl [2, 3, 4, 1, 0] rfl)
  · skip
    intro H locs ls hI hl
    refine lv_iload_n hx hb dX7_goes_25 rfl (lv_at hl 0 rfl) ?_
    have hf := Prod.mk.inj (Option.some.inj hf)
    rw [hf.1]
    exact hret H locs 26 ls (hf.2 ▸ hI) dX7_goes_26
theorem cwX7_goes {R : Room} {s : State} {args : Array Value} {fr lo : Nat} (hts : ∀ w ∈ lw_all, w.before args s = true) (hR : fr + 1 ≤ R.frames ∧ 8 + (5 + 11) + lo ≤ R.locals) : CallW R s args RX7 RX7 334 yX7_goes cX7_goes 5 (some .int) (ws_ yX7_goes cX7_goes 5 (some .int)) ({ frames := fr, cells := 0, slots := 0, locals := lo }) 0 0 2 :=
  cwV 2 hts (lw_V q2484 q2486 qs114 q143 q2487) rfl rfl rfl (by decide +kernel) hR

def X7_seasons_J16 (τ : Mm) (a1 : Int32) (y0 : Int32) : Option (Int32 × Mm) :=
  (some (mup τ 10 0 y0)).bind fun t16 =>
  if (t16 10 0) ≤ (0 : Int32) then
    (X7_remembers t16).bind fun t29 =>
    (X7_goes t29 a1 (1 : Int32)).bind fun x35 =>
    some (x35.1, x35.2)
  else
    some ((0 : Int32), t16)
def X7_seasons (τ : Mm) (a1 : Int32) : Option (Int32 × Mm) :=
  (X7_isIn a1 (1 : Int32) (80 : Int32)).bind fun x5 =>
  if x5 = (0 : Int32) then
    X7_seasons_J16 τ a1 (1 : Int32)
  else
    X7_seasons_J16 τ a1 (0 : Int32)
set_option maxHeartbeats 4000000 in
theorem mX7_seasons (τ : Mm) (a1 : Int32) (r : Int32) (τ' : Mm) (hf : X7_seasons τ a1 = some (r, τ')) : TMi yX7_seasons cX7_seasons 2 (some .int) 695 20119 (fun aK => [.int a1]) r τ τ' := by
  refine TMi.of (by decide) rfl (fun _ _ => Nat.le_of_ble_eq_true rfl) ?_
  intro p l e s m args below meth c D cI cZ o z aK aV Q ls hz hx hb hml hown hts hE hret hI hl
  obtain ⟨H, eH⟩ : ∃ H, H = s.heap := ⟨_, rfl⟩
  obtain ⟨locs, eL⟩ : ∃ L : List Loc, L = [] := ⟨_, rfl⟩
  rw [← eH, ← eL] at hI ⊢
  have hl : lv_has ls 2 [(0, .ref o), (1, .int a1)] := hl
  unfold X7_seasons at hf
  have hJ16 : ∀ (τ : Mm) (y0 : Int32) (H : Heap) (locs : List Loc) (ls : Array Slot), X7_seasons_J16 τ a1 y0 = some (r, τ') → IT D cI cZ o s H locs τ → lv_has ls 2 [(0, .ref o), (1, .int a1)] → W p l e ({ frames := 695, cells := 0, slots := 0, locals := 20119 } : Room) s m args below meth c H locs 0 0 Q (F0 m 16 ls [.int y0, .ref o]) := by
    intro τ y0 H locs ls hf hI hl
    unfold X7_seasons_J16 at hf
    obtain ⟨t16, et16, hf⟩ := obd hf
    refine tput hx hb hts hown hE hI 0 (by decide) q2100 rfl (tyX7_ok 0 (by decide)) rfl rfl rfl et16 dX7_seasons_16 (fun H locs hI => ?_)
    refine lv_aload_n hx hb dX7_seasons_19 rfl (lv_at hl 0 rfl) ?_
    refine tget hx hb hts hown hE hI 0 (by decide) q2100 rfl dX7_seasons_20 ?_
    refine lv_if_le (tgt := 28) hx hb dX7_seasons_23 (by decide) (fun hc => ?_) (fun hc => ?_)
    · replace hf := ipos hc hf
      refine lv_aload_n hx hb dX7_seasons_28 rfl (lv_at hl 0 rfl) ?_
      obtain ⟨t29, et29, hf⟩ := obd hf
      refine tcallV (rest := []) hx hb hts hown hE hz hI hml hl.1 (mX7_remembers t16 _ et29) (cwX7_remembers hts ⟨Nat.le_of_ble_eq_true rfl, Nat.le_of_ble_eq_true rfl⟩) ⟨Nat.le_of_ble_eq_true rfl, Nat.le_of_ble_eq_true rfl⟩ rfl rfl (lv_room (Nat.le_of_ble_eq_true rfl)) dX7_seasons_29 (fun H locs hI => ?_)
      refine lv_aload_n hx hb dX7_seasons_32 rfl (lv_at hl 0 rfl) ?_
      refine lv_iload_n hx hb dX7_seasons_33 rfl (lv_at hl 1 rfl) ?_
      refine lv_iconst (v := (1 : Int32)) hx hb dX7_seasons_34 (by decide) ?_
      obtain ⟨x35, ex35, hf⟩ := obd hf
      refine tcallI (rest := []) hx hb hts hown hE hz hI hml hl.1 (mX7_goes t29 a1 (1 : Int32) _ _ ex35) (cwX7_goes hts ⟨Nat.le_of_ble_eq_true rfl, Nat.le_of_ble_eq_true rfl⟩) ⟨Nat.le_of_ble_eq_true rfl, Nat.le_of_ble_eq_true rfl⟩ rfl rfl (lv_room (Nat.le_of_ble_eq_true rfl)) dX7_seasons_35 (fun H locs hI => ?_)
      have hf := Prod.mk.inj (Option.some.inj hf)
      rw [hf.1]
      exact hret H locs 38 ls (hf.2 ▸ hI) dX7_seasons_38
    · replace hf := ineg hc hf
      refine lv_iconst (v := (0 : Int32)) hx hb dX7_seasons_26 (by decide) ?_
      have hf := Prod.mk.inj (Option.some.inj hf)
      rw [hf.1]
      exact hret H locs 27 ls (hf.2 ▸ hI) dX7_seasons_27
  refine lv_aload_n hx hb dX7_seasons_0 rfl (lv_at hl 0 rfl) ?_
  refine lv_iload_n hx hb dX7_seasons_1 rfl (lv_at hl 1 rfl) ?_
  refine lv_iconst (v := (1 : Int32)) hx hb dX7_seasons_2 (by decide) ?_
  refine lv_bipush (v := (80 : Int32)) hx hb dX7_seasons_3 (by decide) ?_
  obtain ⟨x5, ex5, hf⟩ := obd hf
  refine tcallS (rest := [.ref o]) hx hb hts hown hml hl.1 (mX7_isIn a1 (1 : Int32) (80 : Int32) _ ex5) (cwX7_isIn hts ⟨Nat.le_of_ble_eq_true rfl, Nat.le_of_ble_eq_true rfl⟩) ⟨Nat.le_of_ble_eq_true rfl, Nat.le_of_ble_eq_true rfl⟩ rfl rfl (lv_room (Nat.le_of_ble_eq_true rfl)) dX7_seasons_5 ?_
  refine lv_if_ne (tgt := 15) hx hb dX7_seasons_8 (by decide) (fun hc => ?_) (fun hc => ?_)
  · replace hf := ineg hc hf
    refine lv_iconst (v := (0 : Int32)) hx hb dX7_seasons_15 (by decide) ?_
    exact hJ16 τ (0 : Int32) H locs ls hf hI  (lv_sub hl [0, 1] rfl)
  · replace hf := ipos hc hf
    refine lv_iconst (v := (1 : Int32)) hx hb dX7_seasons_11 (by decide) ?_
    refine lv_goto (tgt := 16) hx hb dX7_seasons_12 (by decide) ?_
    exact hJ16 τ (1 : Int32) H locs ls hf hI  (lv_sub hl [0, 1] rfl)


def X7_write_J76 (τ : Mm) (a1 : Int32) (a2 : Int32) (a3 : Int32) (a4 : Int32) (a5 : Int32) (y0 : Int32) : Option (Int32 × Mm) :=
  (some (mup τ 10 0 y0)).bind fun t76 =>
  if (t76 10 0) ≤ (0 : Int32) then
    (X7_remembers t76).bind fun t89 =>
    (X7_adds t89 a1 a2 a3 a4 a5 (-1 : Int32) (-1 : Int32)).bind fun t102 =>
    some (((t102 0 5) - (1 : Int32)), t102)
  else
    some ((0 : Int32), t76)
def X7_write_J56 (τ : Mm) (a1 : Int32) (a2 : Int32) (a3 : Int32) (a4 : Int32) (a5 : Int32) : Option (Int32 × Mm) :=
  X7_write_J76 τ a1 a2 a3 a4 a5 (2 : Int32)
def X7_write_J25 (τ : Mm) (a1 : Int32) (a2 : Int32) (a3 : Int32) (a4 : Int32) (a5 : Int32) : Option (Int32 × Mm) :=
  X7_write_J76 τ a1 a2 a3 a4 a5 (1 : Int32)
def X7_write (τ : Mm) (a1 : Int32) (a2 : Int32) (a3 : Int32) (a4 : Int32) (a5 : Int32) : Option (Int32 × Mm) :=
  (X7_isInk τ a1).bind fun x3 =>
  if x3 = (0 : Int32) then
    X7_write_J25 τ a1 a2 a3 a4 a5
  else
    (X7_isParty τ a2).bind fun x11 =>
    if x11 = (0 : Int32) then
      X7_write_J25 τ a1 a2 a3 a4 a5
    else
      (X7_isParty τ a3).bind fun x19 =>
      if x19 = (0 : Int32) then
        X7_write_J25 τ a1 a2 a3 a4 a5
      else
        if a2 = a3 then
          X7_write_J56 τ a1 a2 a3 a4 a5
        else
          (X7_isIn a4 (0 : Int32) (99 : Int32)).bind fun x39 =>
          if x39 = (0 : Int32) then
            X7_write_J56 τ a1 a2 a3 a4 a5
          else
            (X7_isIn a5 (0 : Int32) (20 : Int32)).bind fun x50 =>
            if x50 = (0 : Int32) then
              X7_write_J56 τ a1 a2 a3 a4 a5
            else
              if (τ 0 5) = (8 : Int32) then
                X7_write_J76 τ a1 a2 a3 a4 a5 (3 : Int32)
              else
                X7_write_J76 τ a1 a2 a3 a4 a5 (0 : Int32)
set_option maxHeartbeats 4000000 in
theorem mX7_write (τ : Mm) (a1 : Int32) (a2 : Int32) (a3 : Int32) (a4 : Int32) (a5 : Int32) (r : Int32) (τ' : Mm) (hf : X7_write τ a1 a2 a3 a4 a5 = some (r, τ')) : TMi yX7_write cX7_write 6 (some .int) 3 91 (fun aK => [.int a1, .int a2, .int a3, .int a4, .int a5]) r τ τ' := by
  refine TMi.of (by decide) rfl (fun _ _ => Nat.le_of_ble_eq_true rfl) ?_
  intro p l e s m args below meth c D cI cZ o z aK aV Q ls hz hx hb hml hown hts hE hret hI hl
  obtain ⟨H, eH⟩ : ∃ H, H = s.heap := ⟨_, rfl⟩
  obtain ⟨locs, eL⟩ : ∃ L : List Loc, L = [] := ⟨_, rfl⟩
  rw [← eH, ← eL] at hI ⊢
  have hl : lv_has ls 6 [(0, .ref o), (1, .int a1), (2, .int a2), (3, .int a3), (4, .int a4), (5, .int a5)] := hl
  unfold X7_write at hf
  have hJ76 : ∀ (τ : Mm) (y0 : Int32) (H : Heap) (locs : List Loc) (ls : Array Slot), X7_write_J76 τ a1 a2 a3 a4 a5 y0 = some (r, τ') → IT D cI cZ o s H locs τ → lv_has ls 6 [(0, .ref o), (1, .int a1), (2, .int a2), (3, .int a3), (4, .int a4), (5, .int a5)] → W p l e ({ frames := 3, cells := 0, slots := 0, locals := 91 } : Room) s m args below meth c H locs 0 0 Q (F0 m 76 ls [.int y0, .ref o]) := by
    intro τ y0 H locs ls hf hI hl
    unfold X7_write_J76 at hf
    obtain ⟨t76, et76, hf⟩ := obd hf
    refine tput hx hb hts hown hE hI 0 (by decide) q2100 rfl (tyX7_ok 0 (by decide)) rfl rfl rfl et76 dX7_write_76 (fun H locs hI => ?_)
    refine lv_aload_n hx hb dX7_write_79 rfl (lv_at hl 0 rfl) ?_
    refine tget hx hb hts hown hE hI 0 (by decide) q2100 rfl dX7_write_80 ?_
    refine lv_if_le (tgt := 88) hx hb dX7_write_83 (by decide) (fun hc => ?_) (fun hc => ?_)
    · replace hf := ipos hc hf
      refine lv_aload_n hx hb dX7_write_88 rfl (lv_at hl 0 rfl) ?_
      obtain ⟨t89, et89, hf⟩ := obd hf
      refine tcallV (rest := []) hx hb hts hown hE hz hI hml hl.1 (mX7_remembers t76 _ et89) (cwX7_remembers hts ⟨Nat.le_of_ble_eq_true rfl, Nat.le_of_ble_eq_true rfl⟩) ⟨Nat.le_of_ble_eq_true rfl, Nat.le_of_ble_eq_true rfl⟩ rfl rfl (lv_room (Nat.le_of_ble_eq_true rfl)) dX7_write_89 (fun H locs hI => ?_)
      refine lv_aload_n hx hb dX7_write_92 rfl (lv_at hl 0 rfl) ?_
      refine lv_iload_n hx hb dX7_write_93 rfl (lv_at hl 1 rfl) ?_
      refine lv_iload_n hx hb dX7_write_94 rfl (lv_at hl 2 rfl) ?_
      refine lv_iload_n hx hb dX7_write_95 rfl (lv_at hl 3 rfl) ?_
      refine lv_iload hx hb dX7_write_96 (lv_at hl 4 rfl) ?_
      refine lv_iload hx hb dX7_write_98 (lv_at hl 5 rfl) ?_
      refine lv_iconst (v := (-1 : Int32)) hx hb dX7_write_100 (by decide) ?_
      refine lv_iconst (v := (-1 : Int32)) hx hb dX7_write_101 (by decide) ?_
      obtain ⟨t102, et102, hf⟩ := obd hf
      refine tcallV (rest := []) hx hb hts hown hE hz hI hml hl.1 (mX7_adds t89 a1 a2 a3 a4 a5 (-1 : Int32) (-1 : Int32) _ et102) (cwX7_adds hts ⟨Nat.le_of_ble_eq_true rfl, Nat.le_of_ble_eq_true rfl⟩) ⟨Nat.le_of_ble_eq_true rfl, Nat.le_of_ble_eq_true rfl⟩ rfl rfl (lv_room (Nat.le_of_ble_eq_true rfl)) dX7_write_102 (fun H locs hI => ?_)
      refine lv_aload_n hx hb dX7_write_105 rfl (lv_at hl 0 rfl) ?_
      refine tget hx hb hts hown hE hI 1 (by decide) q2101 rfl dX7_write_106 ?_
      refine lv_iconst (v := (5 : Int32)) hx hb dX7_write_109 (by decide) ?_
      refine taldc hx hb hE hI 1 781 5 rfl (by decide) (by decide) dX7_write_110 ?_
      refine lv_iconst (v := (1 : Int32)) hx hb dX7_write_111 (by decide) ?_
      refine lv_isub hx hb dX7_write_112 ?_
      have hf := Prod.mk.inj (Option.some.inj hf)
      rw [hf.1]
      exact hret H locs 113 ls (hf.2 ▸ hI) dX7_write_113
    · replace hf := ineg hc hf
      refine lv_iconst (v := (0 : Int32)) hx hb dX7_write_86 (by decide) ?_
      have hf := Prod.mk.inj (Option.some.inj hf)
      rw [hf.1]
      exact hret H locs 87 ls (hf.2 ▸ hI) dX7_write_87
  have hJ56 : ∀ (τ : Mm) (H : Heap) (locs : List Loc) (ls : Array Slot), X7_write_J56 τ a1 a2 a3 a4 a5 = some (r, τ') → IT D cI cZ o s H locs τ → lv_has ls 6 [(0, .ref o), (1, .int a1), (2, .int a2), (3, .int a3), (4, .int a4), (5, .int a5)] → W p l e ({ frames := 3, cells := 0, slots := 0, locals := 91 } : Room) s m args below meth c H locs 0 0 Q (F0 m 56 ls [.ref o]) := by
    intro τ  H locs ls hf hI hl
    unfold X7_write_J56 at hf
    refine lv_iconst (v := (2 : Int32)) hx hb dX7_write_56 (by decide) ?_
    refine lv_goto (tgt := 76) hx hb dX7_write_57 (by decide) ?_
    exact hJ76 τ (2 : Int32) H locs ls hf hI  (lv_sub hl [0, 1, 2, 3, 4, 5] rfl)
  have hJ25 : ∀ (τ : Mm) (H : Heap) (locs : List Loc) (ls : Array Slot), X7_write_J25 τ a1 a2 a3 a4 a5 = some (r, τ') → IT D cI cZ o s H locs τ → lv_has ls 6 [(0, .ref o), (1, .int a1), (2, .int a2), (3, .int a3), (4, .int a4), (5, .int a5)] → W p l e ({ frames := 3, cells := 0, slots := 0, locals := 91 } : Room) s m args below meth c H locs 0 0 Q (F0 m 25 ls [.ref o]) := by
    intro τ  H locs ls hf hI hl
    unfold X7_write_J25 at hf
    refine lv_iconst (v := (1 : Int32)) hx hb dX7_write_25 (by decide) ?_
    refine lv_goto (tgt := 76) hx hb dX7_write_26 (by decide) ?_
    exact hJ76 τ (1 : Int32) H locs ls hf hI  (lv_sub hl [0, 1, 2, 3, 4, 5] rfl)
  refine lv_aload_n hx hb dX7_write_0 rfl (lv_at hl 0 rfl) ?_
  refine lv_aload_n hx hb dX7_write_1 rfl (lv_at hl 0 rfl) ?_
  refine lv_iload_n hx hb dX7_write_2 rfl (lv_at hl 1 rfl) ?_
  obtain ⟨x3, ex3, hf⟩ := obd hf
  refine tcallI (rest := [.ref o]) hx hb hts hown hE hz hI hml hl.1 (mX7_isInk τ a1 _ ex3) (cwX7_isInk hts ⟨Nat.le_of_ble_eq_true rfl, Nat.le_of_ble_eq_true rfl⟩) ⟨Nat.le_of_ble_eq_true rfl, Nat.le_of_ble_eq_true rfl⟩ rfl rfl (lv_room (Nat.le_of_ble_eq_true rfl)) dX7_write_3 (fun H locs hI => ?_)
  refine lv_if_eq (tgt := 25) hx hb dX7_write_6 (by decide) (fun hc => ?_) (fun hc => ?_)
  · replace hf := ipos hc hf
    exact hJ25 τ H locs ls hf hI  (lv_sub hl [0, 1, 2, 3, 4, 5] rfl)
  · replace hf := ineg hc hf
    refine lv_aload_n hx hb dX7_write_9 rfl (lv_at hl 0 rfl) ?_
    refine lv_iload_n hx hb dX7_write_10 rfl (lv_at hl 2 rfl) ?_
    obtain ⟨x11, ex11, hf⟩ := obd hf
    refine tcallI (rest := [.ref o]) hx hb hts hown hE hz hI hml hl.1 (mX7_isParty τ a2 _ ex11) (cwX7_isParty hts ⟨Nat.le_of_ble_eq_true rfl, Nat.le_of_ble_eq_true rfl⟩) ⟨Nat.le_of_ble_eq_true rfl, Nat.le_of_ble_eq_true rfl⟩ rfl rfl (lv_room (Nat.le_of_ble_eq_true rfl)) dX7_write_11 (fun H locs hI => ?_)
    refine lv_if_eq (tgt := 25) hx hb dX7_write_14 (by decide) (fun hc => ?_) (fun hc => ?_)
    · replace hf := ipos hc hf
      exact hJ25 τ H locs ls hf hI  (lv_sub hl [0, 1, 2, 3, 4, 5] rfl)
    · replace hf := ineg hc hf
      refine lv_aload_n hx hb dX7_write_17 rfl (lv_at hl 0 rfl) ?_
      refine lv_iload_n hx hb dX7_write_18 rfl (lv_at hl 3 rfl) ?_
      obtain ⟨x19, ex19, hf⟩ := obd hf
      refine tcallI (rest := [.ref o]) hx hb hts hown hE hz hI hml hl.1 (mX7_isParty τ a3 _ ex19) (cwX7_isParty hts ⟨Nat.le_of_ble_eq_true rfl, Nat.le_of_ble_eq_true rfl⟩) ⟨Nat.le_of_ble_eq_true rfl, Nat.le_of_ble_eq_true rfl⟩ rfl rfl (lv_room (Nat.le_of_ble_eq_true rfl)) dX7_write_19 (fun H locs hI => ?_)
      refine lv_if_ne (tgt := 29) hx hb dX7_write_22 (by decide) (fun hc => ?_) (fun hc => ?_)
      · replace hf := ineg hc hf
        refine lv_iload_n hx hb dX7_write_29 rfl (lv_at hl 2 rfl) ?_
        refine lv_iload_n hx hb dX7_write_30 rfl (lv_at hl 3 rfl) ?_
        refine lv_icmp_eq (tgt := 56) hx hb dX7_write_31 (by decide) (fun hc => ?_) (fun hc => ?_)
        · replace hf := ipos hc hf
          exact hJ56 τ H locs ls hf hI  (lv_sub hl [0, 1, 2, 3, 4, 5] rfl)
        · replace hf := ineg hc hf
          refine lv_iload hx hb dX7_write_34 (lv_at hl 4 rfl) ?_
          refine lv_iconst (v := (0 : Int32)) hx hb dX7_write_36 (by decide) ?_
          refine lv_bipush (v := (99 : Int32)) hx hb dX7_write_37 (by decide) ?_
          obtain ⟨x39, ex39, hf⟩ := obd hf
          refine tcallS (rest := [.ref o]) hx hb hts hown hml hl.1 (mX7_isIn a4 (0 : Int32) (99 : Int32) _ ex39) (cwX7_isIn hts ⟨Nat.le_of_ble_eq_true rfl, Nat.le_of_ble_eq_true rfl⟩) ⟨Nat.le_of_ble_eq_true rfl, Nat.le_of_ble_eq_true rfl⟩ rfl rfl (lv_room (Nat.le_of_ble_eq_true rfl)) dX7_write_39 ?_
          refine lv_if_eq (tgt := 56) hx hb dX7_write_42 (by decide) (fun hc => ?_) (fun hc => ?_)
          · replace hf := ipos hc hf
            exact hJ56 τ H locs ls hf hI  (lv_sub hl [0, 1, 2, 3, 4, 5] rfl)
          · replace hf := ineg hc hf
            refine lv_iload hx hb dX7_write_45 (lv_at hl 5 rfl) ?_
            refine lv_iconst (v := (0 : Int32)) hx hb dX7_write_47 (by decide) ?_
            refine lv_bipush (v := (20 : Int32)) hx hb dX7_write_48 (by decide) ?_
            obtain ⟨x50, ex50, hf⟩ := obd hf
            refine tcallS (rest := [.ref o]) hx hb hts hown hml hl.1 (mX7_isIn a5 (0 : Int32) (20 : Int32) _ ex50) (cwX7_isIn hts ⟨Nat.le_of_ble_eq_true rfl, Nat.le_of_ble_eq_true rfl⟩) ⟨Nat.le_of_ble_eq_true rfl, Nat.le_of_ble_eq_true rfl⟩ rfl rfl (lv_room (Nat.le_of_ble_eq_true rfl)) dX7_write_50 ?_
            refine lv_if_ne (tgt := 60) hx hb dX7_write_53 (by decide) (fun hc => ?_) (fun hc => ?_)
            · replace hf := ineg hc hf
              refine lv_aload_n hx hb dX7_write_60 rfl (lv_at hl 0 rfl) ?_
              refine tget hx hb hts hown hE hI 1 (by decide) q2101 rfl dX7_write_61 ?_
              refine lv_iconst (v := (5 : Int32)) hx hb dX7_write_64 (by decide) ?_
              refine taldc hx hb hE hI 1 781 5 rfl (by decide) (by decide) dX7_write_65 ?_
              refine lv_bipush (v := (8 : Int32)) hx hb dX7_write_66 (by decide) ?_
              refine lv_icmp_ne (tgt := 75) hx hb dX7_write_68 (by decide) (fun hc => ?_) (fun hc => ?_)
              · replace hf := ineg hc hf
                refine lv_iconst (v := (0 : Int32)) hx hb dX7_write_75 (by decide) ?_
                exact hJ76 τ (0 : Int32) H locs ls hf hI  (lv_sub hl [0, 1, 2, 3, 4, 5] rfl)
              · replace hf := ipos hc hf
                refine lv_iconst (v := (3 : Int32)) hx hb dX7_write_71 (by decide) ?_
                refine lv_goto (tgt := 76) hx hb dX7_write_72 (by decide) ?_
                exact hJ76 τ (3 : Int32) H locs ls hf hI  (lv_sub hl [0, 1, 2, 3, 4, 5] rfl)
            · replace hf := ipos hc hf
              exact hJ56 τ H locs ls hf hI  (lv_sub hl [0, 1, 2, 3, 4, 5] rfl)
      · replace hf := ipos hc hf
        exact hJ25 τ H locs ls hf hI  (lv_sub hl [0, 1, 2, 3, 4, 5] rfl)


def X7_costsOf (τ : Mm) (a1 : Int32) : Option (Int32 × Mm) :=
  (X7_asks τ a1).bind fun t2 =>
  some ((t2 10 18), t2)
set_option maxHeartbeats 4000000 in
theorem mX7_costsOf (τ : Mm) (a1 : Int32) (r : Int32) (τ' : Mm) (hf : X7_costsOf τ a1 = some (r, τ')) : TMi yX7_costsOf cX7_costsOf 2 (some .int) 693 20070 (fun aK => [.int a1]) r τ τ' := by
  refine TMi.of (by decide) rfl (fun _ _ => Nat.le_of_ble_eq_true rfl) ?_
  intro p l e s m args below meth c D cI cZ o z aK aV Q ls hz hx hb hml hown hts hE hret hI hl
  obtain ⟨H, eH⟩ : ∃ H, H = s.heap := ⟨_, rfl⟩
  obtain ⟨locs, eL⟩ : ∃ L : List Loc, L = [] := ⟨_, rfl⟩
  rw [← eH, ← eL] at hI ⊢
  have hl : lv_has ls 2 [(0, .ref o), (1, .int a1)] := hl
  unfold X7_costsOf at hf
  refine lv_aload_n hx hb dX7_costsOf_0 rfl (lv_at hl 0 rfl) ?_
  refine lv_iload_n hx hb dX7_costsOf_1 rfl (lv_at hl 1 rfl) ?_
  obtain ⟨t2, et2, hf⟩ := obd hf
  refine tcallV (rest := []) hx hb hts hown hE hz hI hml hl.1 (mX7_asks τ a1 _ et2) (cwX7_asks hts ⟨Nat.le_of_ble_eq_true rfl, Nat.le_of_ble_eq_true rfl⟩) ⟨Nat.le_of_ble_eq_true rfl, Nat.le_of_ble_eq_true rfl⟩ rfl rfl (lv_room (Nat.le_of_ble_eq_true rfl)) dX7_costsOf_2 (fun H locs hI => ?_)
  refine lv_aload_n hx hb dX7_costsOf_5 rfl (lv_at hl 0 rfl) ?_
  refine tget hx hb hts hown hE hI 18 (by decide) q2118 rfl dX7_costsOf_6 ?_
  have hf := Prod.mk.inj (Option.some.inj hf)
  rw [hf.1]
  exact hret H locs 9 ls (hf.2 ▸ hI) dX7_costsOf_9
theorem cwX7_costsOf {R : Room} {s : State} {args : Array Value} {fr lo : Nat} (hts : ∀ w ∈ lw_all, w.before args s = true) (hR : fr + 1 ≤ R.frames ∧ 8 + (2 + 11) + lo ≤ R.locals) : CallW R s args RX7 RX7 337 yX7_costsOf cX7_costsOf 2 (some .int) (ws_ yX7_costsOf cX7_costsOf 2 (some .int)) ({ frames := fr, cells := 0, slots := 0, locals := lo }) 0 0 1 :=
  cwV 1 hts (lw_V q2496 q2498 qs115 q143 q2499) rfl rfl rfl (by decide +kernel) hR

def X7_warm_L106 (τ : Mm) (c2 : Int32) (w106 : Int32) : Option ((Int32) ⊕ (Int32)) :=
  if (τ 0 5) ≤ w106 then
    some (.inr w106)
  else
    (X7_of τ w106 (10 : Int32)).bind fun x122 =>
    if x122 = (0 : Int32) then
      some (.inr w106)
    else
      (some (w106 + (1 : Int32))).bind fun v128 =>
      some (.inl v128)
def X7_warm_J65 (τ : Mm) (a1 : Int32) (a2 : Int32) (x3 : Int32) (y0 : Int32) : Option (Int32 × Mm) :=
  (some (mup τ 10 0 y0)).bind fun t65 =>
  if (t65 10 0) ≤ (0 : Int32) then
    (X7_remembers t65).bind fun t78 =>
    (ld 781 (t78 0) ((15 : Int32) + ((2 : Int32) * a2))).bind fun x92 =>
    (sto 781 t78 0 ((15 : Int32) + ((2 : Int32) * a2)) (x92 - x3)).bind fun t95 =>
    (X7_comesUp t95 a1).bind fun t98 =>
    (some (a1 + (1 : Int32))).bind fun v104 =>
    (loopO (X7_warm_L106 t98 a2) FU v104).bind fun e106 =>
    if (t98 0 5) ≤ e106 then
      (X7_coins t98 a2).bind fun x165 =>
      some (x165, t98)
    else
      (X7_of t98 e106 (8 : Int32)).bind fun x155 =>
      (X7_lays t98 e106 (8 : Int32) (x155 / (2 : Int32))).bind fun t160 =>
      (X7_coins t160 a2).bind fun x165_15 =>
      some (x165_15, t160)
  else
    some ((0 : Int32), t65)
def X7_warm_J60 (τ : Mm) (a1 : Int32) (a2 : Int32) (x3 : Int32) : Option (Int32 × Mm) :=
  X7_warm_J65 τ a1 a2 x3 (2 : Int32)
def X7_warm_J22 (τ : Mm) (a1 : Int32) (a2 : Int32) (y0 : Int32) : Option (Int32 × Mm) :=
  (some (mup τ 10 0 y0)).bind fun t22 =>
  if (t22 10 0) ≤ (0 : Int32) then
    (X7_costsOf t22 a1).bind fun x36 =>
    (X7_of x36.2 a1 (10 : Int32)).bind fun x45 =>
    if x45 = (0 : Int32) then
      (X7_coins x36.2 a2).bind fun x53 =>
      if x36.1 ≤ x53 then
        X7_warm_J65 x36.2 a1 a2 x36.1 (0 : Int32)
      else
        X7_warm_J60 x36.2 a1 a2 x36.1
    else
      X7_warm_J60 x36.2 a1 a2 x36.1
  else
    some ((0 : Int32), t22)
def X7_warm_J17 (τ : Mm) (a1 : Int32) (a2 : Int32) : Option (Int32 × Mm) :=
  X7_warm_J22 τ a1 a2 (1 : Int32)
def X7_warm (τ : Mm) (a1 : Int32) (a2 : Int32) : Option (Int32 × Mm) :=
  (X7_isDeed τ a1).bind fun x3 =>
  if x3 = (0 : Int32) then
    X7_warm_J17 τ a1 a2
  else
    (X7_isParty τ a2).bind fun x11 =>
    if x11 = (0 : Int32) then
      X7_warm_J17 τ a1 a2
    else
      X7_warm_J22 τ a1 a2 (0 : Int32)
set_option maxHeartbeats 4000000 in
theorem mX7_warm (τ : Mm) (a1 : Int32) (a2 : Int32) (r : Int32) (τ' : Mm) (hf : X7_warm τ a1 a2 = some (r, τ')) : TMi yX7_warm cX7_warm 5 (some .int) 694 20091 (fun aK => [.int a1, .int a2]) r τ τ' := by
  refine TMi.of (by decide) rfl (fun _ _ => Nat.le_of_ble_eq_true rfl) ?_
  intro p l e s m args below meth c D cI cZ o z aK aV Q ls hz hx hb hml hown hts hE hret hI hl
  obtain ⟨H, eH⟩ : ∃ H, H = s.heap := ⟨_, rfl⟩
  obtain ⟨locs, eL⟩ : ∃ L : List Loc, L = [] := ⟨_, rfl⟩
  rw [← eH, ← eL] at hI ⊢
  have hl : lv_has ls 5 [(0, .ref o), (1, .int a1), (2, .int a2)] := hl
  unfold X7_warm at hf
  have hJ65 : ∀ (τ : Mm) (x3 : Int32) (y0 : Int32) (H : Heap) (locs : List Loc) (ls : Array Slot), X7_warm_J65 τ a1 a2 x3 y0 = some (r, τ') → IT D cI cZ o s H locs τ → lv_has ls 5 [(0, .ref o), (1, .int a1), (2, .int a2), (3, .int x3)] → W p l e ({ frames := 694, cells := 0, slots := 0, locals := 20091 } : Room) s m args below meth c H locs 0 0 Q (F0 m 65 ls [.int y0, .ref o]) := by
    intro τ x3 y0 H locs ls hf hI hl
    unfold X7_warm_J65 at hf
    obtain ⟨t65, et65, hf⟩ := obd hf
    refine tput hx hb hts hown hE hI 0 (by decide) q2100 rfl (tyX7_ok 0 (by decide)) rfl rfl rfl et65 dX7_warm_65 (fun H locs hI => ?_)
    refine lv_aload_n hx hb dX7_warm_68 rfl (lv_at hl 0 rfl) ?_
    refine tget hx hb hts hown hE hI 0 (by decide) q2100 rfl dX7_warm_69 ?_
    refine lv_if_le (tgt := 77) hx hb dX7_warm_72 (by decide) (fun hc => ?_) (fun hc => ?_)
    · replace hf := ipos hc hf
      refine lv_aload_n hx hb dX7_warm_77 rfl (lv_at hl 0 rfl) ?_
      obtain ⟨t78, et78, hf⟩ := obd hf
      refine tcallV (rest := []) hx hb hts hown hE hz hI hml hl.1 (mX7_remembers t65 _ et78) (cwX7_remembers hts ⟨Nat.le_of_ble_eq_true rfl, Nat.le_of_ble_eq_true rfl⟩) ⟨Nat.le_of_ble_eq_true rfl, Nat.le_of_ble_eq_true rfl⟩ rfl rfl (lv_room (Nat.le_of_ble_eq_true rfl)) dX7_warm_78 (fun H locs hI => ?_)
      refine lv_aload_n hx hb dX7_warm_81 rfl (lv_at hl 0 rfl) ?_
      refine tget hx hb hts hown hE hI 1 (by decide) q2101 rfl dX7_warm_82 ?_
      refine lv_bipush (v := (15 : Int32)) hx hb dX7_warm_85 (by decide) ?_
      refine lv_iconst (v := (2 : Int32)) hx hb dX7_warm_87 (by decide) ?_
      refine lv_iload_n hx hb dX7_warm_88 rfl (lv_at hl 2 rfl) ?_
      refine lv_imul hx hb dX7_warm_89 ?_
      refine lv_iadd hx hb dX7_warm_90 ?_
      refine lv_dup2_11 hx hb dX7_warm_91 rfl rfl ?_
      obtain ⟨x92, ex92, hf⟩ := obd hf
      refine tald hx hb hE hI 1 781 rfl ex92 dX7_warm_92 ?_
      refine lv_iload_n hx hb dX7_warm_93 rfl (lv_at hl 3 rfl) ?_
      refine lv_isub hx hb dX7_warm_94 ?_
      obtain ⟨t95, et95, hf⟩ := obd hf
      refine tast hx hb hE hI 1 781 0 rfl (fun _ => rfl) et95 dX7_warm_95 (fun H locs hI => ?_)
      refine lv_aload_n hx hb dX7_warm_96 rfl (lv_at hl 0 rfl) ?_
      refine lv_iload_n hx hb dX7_warm_97 rfl (lv_at hl 1 rfl) ?_
      obtain ⟨t98, et98, hf⟩ := obd hf
      refine tcallV (rest := []) hx hb hts hown hE hz hI hml hl.1 (mX7_comesUp t95 a1 _ et98) (cwX7_comesUp hts ⟨Nat.le_of_ble_eq_true rfl, Nat.le_of_ble_eq_true rfl⟩) ⟨Nat.le_of_ble_eq_true rfl, Nat.le_of_ble_eq_true rfl⟩ rfl rfl (lv_room (Nat.le_of_ble_eq_true rfl)) dX7_warm_98 (fun H locs hI => ?_)
      refine lv_iload_n hx hb dX7_warm_101 rfl (lv_at hl 1 rfl) ?_
      refine lv_iconst (v := (1 : Int32)) hx hb dX7_warm_102 (by decide) ?_
      refine lv_iadd hx hb dX7_warm_103 ?_
      obtain ⟨v104, ev104, hf⟩ := obd hf
      refine nmI ev104 ?_
      refine lv_istore (lv' := [(4, .int v104), (0, .ref o), (1, .int a1), (2, .int a2), (3, .int x3)]) hx hb dX7_warm_104 hl (by decide) rfl (fun ls hl => ?_)
      obtain ⟨e106, he106, hf⟩ := obd hf
      have hs106 : ∀ (τ : Mm) (c2 : Int32), ∀ (w106 : Int32) (o106 : (Int32) ⊕ (Int32)), X7_warm_L106 τ c2 w106 = some o106 → (∀ wx_, o106 = .inl wx_ → ∀ (H : Heap) (locs : List Loc) (ls : Array Slot), IT D cI cZ o s H locs τ → lv_has ls 5 [(0, .ref o), (2, .int c2), (4, .int wx_)] → W p l e ({ frames := 694, cells := 0, slots := 0, locals := 20091 } : Room) s m args below meth c H locs 0 0 Q (F0 m 106 ls [])) → (∀ ex_, o106 = .inr ex_ → ∀ (H : Heap) (locs : List Loc) (ls : Array Slot), IT D cI cZ o s H locs τ → lv_has ls 5 [(0, .ref o), (2, .int c2), (4, .int ex_)] → W p l e ({ frames := 694, cells := 0, slots := 0, locals := 20091 } : Room) s m args below meth c H locs 0 0 Q (F0 m 134 ls [])) → ∀ (H : Heap) (locs : List Loc) (ls : Array Slot), IT D cI cZ o s H locs τ → lv_has ls 5 [(0, .ref o), (2, .int c2), (4, .int w106)] → W p l e ({ frames := 694, cells := 0, slots := 0, locals := 20091 } : Room) s m args below meth c H locs 0 0 Q (F0 m 106 ls []) := by
        intro τ c2 w106 o106 hf hk hq H locs ls hI hl
        unfold X7_warm_L106 at hf
        refine lv_iload hx hb dX7_warm_106 (lv_at hl 2 rfl) ?_
        refine lv_aload_n hx hb dX7_warm_108 rfl (lv_at hl 0 rfl) ?_
        refine tget hx hb hts hown hE hI 1 (by decide) q2101 rfl dX7_warm_109 ?_
        refine lv_iconst (v := (5 : Int32)) hx hb dX7_warm_112 (by decide) ?_
        refine taldc hx hb hE hI 1 781 5 rfl (by decide) (by decide) dX7_warm_113 ?_
        refine lv_icmp_ge (tgt := 134) hx hb dX7_warm_114 (by decide) (fun hc => ?_) (fun hc => ?_)
        · replace hf := ipos hc hf
          exact hq _ (Option.some.inj hf).symm H locs ls hI (lv_sub hl [0, 1, 2] rfl)
        · replace hf := ineg hc hf
          refine lv_aload_n hx hb dX7_warm_117 rfl (lv_at hl 0 rfl) ?_
          refine lv_iload hx hb dX7_warm_118 (lv_at hl 2 rfl) ?_
          refine lv_bipush (v := (10 : Int32)) hx hb dX7_warm_120 (by decide) ?_
          obtain ⟨x122, ex122, hf⟩ := obd hf
          refine tcallI (rest := []) hx hb hts hown hE hz hI hml hl.1 (mX7_of τ w106 (10 : Int32) _ ex122) (cwX7_of hts ⟨Nat.le_of_ble_eq_true rfl, Nat.le_of_ble_eq_true rfl⟩) ⟨Nat.le_of_ble_eq_true rfl, Nat.le_of_ble_eq_true rfl⟩ rfl rfl (lv_room (Nat.le_of_ble_eq_true rfl)) dX7_warm_122 (fun H locs hI => ?_)
          refine lv_if_eq (tgt := 134) hx hb dX7_warm_125 (by decide) (fun hc => ?_) (fun hc => ?_)
          · replace hf := ipos hc hf
            exact hq _ (Option.some.inj hf).symm H locs ls hI (lv_sub hl [0, 1, 2] rfl)
          · replace hf := ineg hc hf
            obtain ⟨v128, ev128, hf⟩ := obd hf
            refine lv_iinc (v := v128) (lv' := [(4, .int v128), (0, .ref o), (2, .int c2)]) hx hb dX7_warm_128 hl (k := 2) rfl (iiE ev128 (by decide)) (by decide) rfl (fun ls hl => ?_)
            refine lv_goto (tgt := 106) hx hb dX7_warm_131 (by decide) ?_
            exact hk _ (Option.some.inj hf).symm H locs ls hI (lv_sub hl [1, 2, 0] rfl)
      refine loopO_W (Wat := fun w106 => ∀ (H : Heap) (locs : List Loc) (ls : Array Slot), IT D cI cZ o s H locs t98 → lv_has ls 5 [(0, .ref o), (2, .int a2), (4, .int w106)] → W p l e ({ frames := 694, cells := 0, slots := 0, locals := 20091 } : Room) s m args below meth c H locs 0 0 Q (F0 m 106 ls [])) (Wex := fun ex_ => ∀ (H : Heap) (locs : List Loc) (ls : Array Slot), IT D cI cZ o s H locs t98 → lv_has ls 5 [(0, .ref o), (2, .int a2), (4, .int ex_)] → W p l e ({ frames := 694, cells := 0, slots := 0, locals := 20091 } : Room) s m args below meth c H locs 0 0 Q (F0 m 134 ls [])) (hs106 t98 a2) FU _ e106 he106 ?_ H locs ls hI (lv_sub hl [1, 3, 0] rfl)
      · skip
        intro H locs ls hI hl
        refine lv_iload hx hb dX7_warm_134 (lv_at hl 2 rfl) ?_
        refine lv_aload_n hx hb dX7_warm_136 rfl (lv_at hl 0 rfl) ?_
        refine tget hx hb hts hown hE hI 1 (by decide) q2101 rfl dX7_warm_137 ?_
        refine lv_iconst (v := (5 : Int32)) hx hb dX7_warm_140 (by decide) ?_
        refine taldc hx hb hE hI 1 781 5 rfl (by decide) (by decide) dX7_warm_141 ?_
        refine lv_icmp_ge (tgt := 163) hx hb dX7_warm_142 (by decide) (fun hc => ?_) (fun hc => ?_)
        · replace hf := ipos hc hf
          refine lv_aload_n hx hb dX7_warm_163 rfl (lv_at hl 0 rfl) ?_
          refine lv_iload_n hx hb dX7_warm_164 rfl (lv_at hl 1 rfl) ?_
          obtain ⟨x165, ex165, hf⟩ := obd hf
          refine tcallI (rest := []) hx hb hts hown hE hz hI hml hl.1 (mX7_coins t98 a2 _ ex165) (cwX7_coins hts ⟨Nat.le_of_ble_eq_true rfl, Nat.le_of_ble_eq_true rfl⟩) ⟨Nat.le_of_ble_eq_true rfl, Nat.le_of_ble_eq_true rfl⟩ rfl rfl (lv_room (Nat.le_of_ble_eq_true rfl)) dX7_warm_165 (fun H locs hI => ?_)
          have hf := Prod.mk.inj (Option.some.inj hf)
          rw [hf.1]
          exact hret H locs 168 ls (hf.2 ▸ hI) dX7_warm_168
        · replace hf := ineg hc hf
          refine lv_aload_n hx hb dX7_warm_145 rfl (lv_at hl 0 rfl) ?_
          refine lv_iload hx hb dX7_warm_146 (lv_at hl 2 rfl) ?_
          refine lv_bipush (v := (8 : Int32)) hx hb dX7_warm_148 (by decide) ?_
          refine lv_aload_n hx hb dX7_warm_150 rfl (lv_at hl 0 rfl) ?_
          refine lv_iload hx hb dX7_warm_151 (lv_at hl 2 rfl) ?_
          refine lv_bipush (v := (8 : Int32)) hx hb dX7_warm_153 (by decide) ?_
          obtain ⟨x155, ex155, hf⟩ := obd hf
          refine tcallI (rest := [.int (8 : Int32), .int e106, .ref o]) hx hb hts hown hE hz hI hml hl.1 (mX7_of t98 e106 (8 : Int32) _ ex155) (cwX7_of hts ⟨Nat.le_of_ble_eq_true rfl, Nat.le_of_ble_eq_true rfl⟩) ⟨Nat.le_of_ble_eq_true rfl, Nat.le_of_ble_eq_true rfl⟩ rfl rfl (lv_room (Nat.le_of_ble_eq_true rfl)) dX7_warm_155 (fun H locs hI => ?_)
          refine lv_iconst (v := (2 : Int32)) hx hb dX7_warm_158 (by decide) ?_
          refine lv_idiv hx hb dX7_warm_159 (by decide) ?_
          obtain ⟨t160, et160, hf⟩ := obd hf
          refine tcallV (rest := []) hx hb hts hown hE hz hI hml hl.1 (mX7_lays t98 e106 (8 : Int32) (x155 / (2 : Int32)) _ et160) (cwX7_lays hts ⟨Nat.le_of_ble_eq_true rfl, Nat.le_of_ble_eq_true rfl⟩) ⟨Nat.le_of_ble_eq_true rfl, Nat.le_of_ble_eq_true rfl⟩ rfl rfl (lv_room (Nat.le_of_ble_eq_true rfl)) dX7_warm_160 (fun H locs hI => ?_)
          refine lv_aload_n hx hb dX7_warm_163 rfl (lv_at hl 0 rfl) ?_
          refine lv_iload_n hx hb dX7_warm_164 rfl (lv_at hl 1 rfl) ?_
          obtain ⟨x165_15, ex165_15, hf⟩ := obd hf
          refine tcallI (rest := []) hx hb hts hown hE hz hI hml hl.1 (mX7_coins t160 a2 _ ex165_15) (cwX7_coins hts ⟨Nat.le_of_ble_eq_true rfl, Nat.le_of_ble_eq_true rfl⟩) ⟨Nat.le_of_ble_eq_true rfl, Nat.le_of_ble_eq_true rfl⟩ rfl rfl (lv_room (Nat.le_of_ble_eq_true rfl)) dX7_warm_165 (fun H locs hI => ?_)
          have hf := Prod.mk.inj (Option.some.inj hf)
          rw [hf.1]
          exact hret H locs 168 ls (hf.2 ▸ hI) dX7_warm_168
    · replace hf := ineg hc hf
      refine lv_iconst (v := (0 : Int32)) hx hb dX7_warm_75 (by decide) ?_
      have hf := Prod.mk.inj (Option.some.inj hf)
      rw [hf.1]
      exact hret H locs 76 ls (hf.2 ▸ hI) dX7_warm_76
  have hJ60 : ∀ (τ : Mm) (x3 : Int32) (H : Heap) (locs : List Loc) (ls : Array Slot), X7_warm_J60 τ a1 a2 x3 = some (r, τ') → IT D cI cZ o s H locs τ → lv_has ls 5 [(0, .ref o), (1, .int a1), (2, .int a2), (3, .int x3)] → W p l e ({ frames := 694, cells := 0, slots := 0, locals := 20091 } : Room) s m args below meth c H locs 0 0 Q (F0 m 60 ls [.ref o]) := by
    intro τ x3 H locs ls hf hI hl
    unfold X7_warm_J60 at hf
    refine lv_iconst (v := (2 : Int32)) hx hb dX7_warm_60 (by decide) ?_
    refine lv_goto (tgt := 65) hx hb dX7_warm_61 (by decide) ?_
    exact hJ65 τ x3 (2 : Int32) H locs ls hf hI  (lv_sub hl [0, 1, 2, 3] rfl)
  have hJ22 : ∀ (τ : Mm) (y0 : Int32) (H : Heap) (locs : List Loc) (ls : Array Slot), X7_warm_J22 τ a1 a2 y0 = some (r, τ') → IT D cI cZ o s H locs τ → lv_has ls 5 [(0, .ref o), (1, .int a1), (2, .int a2)] → W p l e ({ frames := 694, cells := 0, slots := 0, locals := 20091 } : Room) s m args below meth c H locs 0 0 Q (F0 m 22 ls [.int y0, .ref o]) := by
    intro τ y0 H locs ls hf hI hl
    unfold X7_warm_J22 at hf
    obtain ⟨t22, et22, hf⟩ := obd hf
    refine tput hx hb hts hown hE hI 0 (by decide) q2100 rfl (tyX7_ok 0 (by decide)) rfl rfl rfl et22 dX7_warm_22 (fun H locs hI => ?_)
    refine lv_aload_n hx hb dX7_warm_25 rfl (lv_at hl 0 rfl) ?_
    refine tget hx hb hts hown hE hI 0 (by decide) q2100 rfl dX7_warm_26 ?_
    refine lv_if_le (tgt := 34) hx hb dX7_warm_29 (by decide) (fun hc => ?_) (fun hc => ?_)
    · replace hf := ipos hc hf
      refine lv_aload_n hx hb dX7_warm_34 rfl (lv_at hl 0 rfl) ?_
      refine lv_iload_n hx hb dX7_warm_35 rfl (lv_at hl 1 rfl) ?_
      obtain ⟨x36, ex36, hf⟩ := obd hf
      refine tcallI (rest := []) hx hb hts hown hE hz hI hml hl.1 (mX7_costsOf t22 a1 _ _ ex36) (cwX7_costsOf hts ⟨Nat.le_of_ble_eq_true rfl, Nat.le_of_ble_eq_true rfl⟩) ⟨Nat.le_of_ble_eq_true rfl, Nat.le_of_ble_eq_true rfl⟩ rfl rfl (lv_room (Nat.le_of_ble_eq_true rfl)) dX7_warm_36 (fun H locs hI => ?_)
      refine lv_istore_n (lv' := [(3, .int x36.1), (0, .ref o), (1, .int a1), (2, .int a2)]) hx hb dX7_warm_39 rfl hl (by decide) rfl (fun ls hl => ?_)
      refine lv_aload_n hx hb dX7_warm_40 rfl (lv_at hl 1 rfl) ?_
      refine lv_aload_n hx hb dX7_warm_41 rfl (lv_at hl 1 rfl) ?_
      refine lv_iload_n hx hb dX7_warm_42 rfl (lv_at hl 2 rfl) ?_
      refine lv_bipush (v := (10 : Int32)) hx hb dX7_warm_43 (by decide) ?_
      obtain ⟨x45, ex45, hf⟩ := obd hf
      refine tcallI (rest := [.ref o]) hx hb hts hown hE hz hI hml hl.1 (mX7_of x36.2 a1 (10 : Int32) _ ex45) (cwX7_of hts ⟨Nat.le_of_ble_eq_true rfl, Nat.le_of_ble_eq_true rfl⟩) ⟨Nat.le_of_ble_eq_true rfl, Nat.le_of_ble_eq_true rfl⟩ rfl rfl (lv_room (Nat.le_of_ble_eq_true rfl)) dX7_warm_45 (fun H locs hI => ?_)
      refine lv_if_ne (tgt := 60) hx hb dX7_warm_48 (by decide) (fun hc => ?_) (fun hc => ?_)
      · replace hf := ineg hc hf
        exact hJ60 x36.2 x36.1 H locs ls hf hI  (lv_sub hl [1, 2, 3, 0] rfl)
      · replace hf := ipos hc hf
        refine lv_aload_n hx hb dX7_warm_51 rfl (lv_at hl 1 rfl) ?_
        refine lv_iload_n hx hb dX7_warm_52 rfl (lv_at hl 3 rfl) ?_
        obtain ⟨x53, ex53, hf⟩ := obd hf
        refine tcallI (rest := [.ref o]) hx hb hts hown hE hz hI hml hl.1 (mX7_coins x36.2 a2 _ ex53) (cwX7_coins hts ⟨Nat.le_of_ble_eq_true rfl, Nat.le_of_ble_eq_true rfl⟩) ⟨Nat.le_of_ble_eq_true rfl, Nat.le_of_ble_eq_true rfl⟩ rfl rfl (lv_room (Nat.le_of_ble_eq_true rfl)) dX7_warm_53 (fun H locs hI => ?_)
        refine lv_iload_n hx hb dX7_warm_56 rfl (lv_at hl 0 rfl) ?_
        refine lv_icmp_ge (tgt := 64) hx hb dX7_warm_57 (by decide) (fun hc => ?_) (fun hc => ?_)
        · replace hf := ipos hc hf
          refine lv_iconst (v := (0 : Int32)) hx hb dX7_warm_64 (by decide) ?_
          exact hJ65 x36.2 x36.1 (0 : Int32) H locs ls hf hI  (lv_sub hl [1, 2, 3, 0] rfl)
        · replace hf := ineg hc hf
          exact hJ60 x36.2 x36.1 H locs ls hf hI  (lv_sub hl [1, 2, 3, 0] rfl)
    · replace hf := ineg hc hf
      refine lv_iconst (v := (0 : Int32)) hx hb dX7_warm_32 (by decide) ?_
      have hf := Prod.mk.inj (Option.some.inj hf)
      rw [hf.1]
      exact hret H locs 33 ls (hf.2 ▸ hI) dX7_warm_33
  have hJ17 : ∀ (τ : Mm) (H : Heap) (locs : List Loc) (ls : Array Slot), X7_warm_J17 τ a1 a2 = some (r, τ') → IT D cI cZ o s H locs τ → lv_has ls 5 [(0, .ref o), (1, .int a1), (2, .int a2)] → W p l e ({ frames := 694, cells := 0, slots := 0, locals := 20091 } : Room) s m args below meth c H locs 0 0 Q (F0 m 17 ls [.ref o]) := by
    intro τ  H locs ls hf hI hl
    unfold X7_warm_J17 at hf
    refine lv_iconst (v := (1 : Int32)) hx hb dX7_warm_17 (by decide) ?_
    refine lv_goto (tgt := 22) hx hb dX7_warm_18 (by decide) ?_
    exact hJ22 τ (1 : Int32) H locs ls hf hI  (lv_sub hl [0, 1, 2] rfl)
  refine lv_aload_n hx hb dX7_warm_0 rfl (lv_at hl 0 rfl) ?_
  refine lv_aload_n hx hb dX7_warm_1 rfl (lv_at hl 0 rfl) ?_
  refine lv_iload_n hx hb dX7_warm_2 rfl (lv_at hl 1 rfl) ?_
  obtain ⟨x3, ex3, hf⟩ := obd hf
  refine tcallI (rest := [.ref o]) hx hb hts hown hE hz hI hml hl.1 (mX7_isDeed τ a1 _ ex3) (cwX7_isDeed hts ⟨Nat.le_of_ble_eq_true rfl, Nat.le_of_ble_eq_true rfl⟩) ⟨Nat.le_of_ble_eq_true rfl, Nat.le_of_ble_eq_true rfl⟩ rfl rfl (lv_room (Nat.le_of_ble_eq_true rfl)) dX7_warm_3 (fun H locs hI => ?_)
  refine lv_if_eq (tgt := 17) hx hb dX7_warm_6 (by decide) (fun hc => ?_) (fun hc => ?_)
  · replace hf := ipos hc hf
    exact hJ17 τ H locs ls hf hI  (lv_sub hl [0, 1, 2] rfl)
  · replace hf := ineg hc hf
    refine lv_aload_n hx hb dX7_warm_9 rfl (lv_at hl 0 rfl) ?_
    refine lv_iload_n hx hb dX7_warm_10 rfl (lv_at hl 2 rfl) ?_
    obtain ⟨x11, ex11, hf⟩ := obd hf
    refine tcallI (rest := [.ref o]) hx hb hts hown hE hz hI hml hl.1 (mX7_isParty τ a2 _ ex11) (cwX7_isParty hts ⟨Nat.le_of_ble_eq_true rfl, Nat.le_of_ble_eq_true rfl⟩) ⟨Nat.le_of_ble_eq_true rfl, Nat.le_of_ble_eq_true rfl⟩ rfl rfl (lv_room (Nat.le_of_ble_eq_true rfl)) dX7_warm_11 (fun H locs hI => ?_)
    refine lv_if_ne (tgt := 21) hx hb dX7_warm_14 (by decide) (fun hc => ?_) (fun hc => ?_)
    · replace hf := ineg hc hf
      refine lv_iconst (v := (0 : Int32)) hx hb dX7_warm_21 (by decide) ?_
      exact hJ22 τ (0 : Int32) H locs ls hf hI  (lv_sub hl [0, 1, 2] rfl)
    · replace hf := ipos hc hf
      exact hJ17 τ H locs ls hf hI  (lv_sub hl [0, 1, 2] rfl)


def X7_sets (τ : Mm) (a1 : Int32) (a2 : Int32) : Option (Int32 × Mm) :=
  (X7_remembers τ).bind fun t1 =>
  (ld 781 (t1 0) a1).bind fun x9 =>
  (sto 781 t1 0 a1 a2).bind fun t17 =>
  some (x9, t17)
set_option maxHeartbeats 4000000 in
theorem mX7_sets (τ : Mm) (a1 : Int32) (a2 : Int32) (r : Int32) (τ' : Mm) (hf : X7_sets τ a1 a2 = some (r, τ')) : TMi yX7_sets cX7_sets 4 (some .int) 2 61 (fun aK => [.int a1, .int a2]) r τ τ' := by
  refine TMi.of (by decide) rfl (fun _ _ => Nat.le_of_ble_eq_true rfl) ?_
  intro p l e s m args below meth c D cI cZ o z aK aV Q ls hz hx hb hml hown hts hE hret hI hl
  obtain ⟨H, eH⟩ : ∃ H, H = s.heap := ⟨_, rfl⟩
  obtain ⟨locs, eL⟩ : ∃ L : List Loc, L = [] := ⟨_, rfl⟩
  rw [← eH, ← eL] at hI ⊢
  have hl : lv_has ls 4 [(0, .ref o), (1, .int a1), (2, .int a2)] := hl
  unfold X7_sets at hf
  refine lv_aload_n hx hb dX7_sets_0 rfl (lv_at hl 0 rfl) ?_
  obtain ⟨t1, et1, hf⟩ := obd hf
  refine tcallV (rest := []) hx hb hts hown hE hz hI hml hl.1 (mX7_remembers τ _ et1) (cwX7_remembers hts ⟨Nat.le_of_ble_eq_true rfl, Nat.le_of_ble_eq_true rfl⟩) ⟨Nat.le_of_ble_eq_true rfl, Nat.le_of_ble_eq_true rfl⟩ rfl rfl (lv_room (Nat.le_of_ble_eq_true rfl)) dX7_sets_1 (fun H locs hI => ?_)
  refine lv_aload_n hx hb dX7_sets_4 rfl (lv_at hl 0 rfl) ?_
  refine tget hx hb hts hown hE hI 1 (by decide) q2101 rfl dX7_sets_5 ?_
  refine lv_iload_n hx hb dX7_sets_8 rfl (lv_at hl 1 rfl) ?_
  obtain ⟨x9, ex9, hf⟩ := obd hf
  refine tald hx hb hE hI 1 781 rfl ex9 dX7_sets_9 ?_
  refine lv_istore_n (lv' := [(3, .int x9), (0, .ref o), (1, .int a1), (2, .int a2)]) hx hb dX7_sets_10 rfl hl (by decide) rfl (fun ls hl => ?_)
  refine lv_aload_n hx hb dX7_sets_11 rfl (lv_at hl 1 rfl) ?_
  refine tget hx hb hts hown hE hI 1 (by decide) q2101 rfl dX7_sets_12 ?_
  refine lv_iload_n hx hb dX7_sets_15 rfl (lv_at hl 2 rfl) ?_
  refine lv_iload_n hx hb dX7_sets_16 rfl (lv_at hl 3 rfl) ?_
  obtain ⟨t17, et17, hf⟩ := obd hf
  refine tast hx hb hE hI 1 781 0 rfl (fun _ => rfl) et17 dX7_sets_17 (fun H locs hI => ?_)
  refine lv_iload_n hx hb dX7_sets_18 rfl (lv_at hl 0 rfl) ?_
  have hf := Prod.mk.inj (Option.some.inj hf)
  rw [hf.1]
  exact hret H locs 19 ls (hf.2 ▸ hI) dX7_sets_19
theorem cwX7_sets {R : Room} {s : State} {args : Array Value} {fr lo : Nat} (hts : ∀ w ∈ lw_all, w.before args s = true) (hR : fr + 1 ≤ R.frames ∧ 8 + (4 + 11) + lo ≤ R.locals) : CallW R s args RX7 RX7 340 yX7_sets cX7_sets 4 (some .int) (ws_ yX7_sets cX7_sets 4 (some .int)) ({ frames := fr, cells := 0, slots := 0, locals := lo }) 0 0 2 :=
  cwV 2 hts (lw_V q2504 q2506 qs116 q143 q2507) rfl rfl rfl (by decide +kernel) hR

def X7_burn_J43 (τ : Mm) (a1 : Int32) (y0 : Int32) : Option (Int32 × Mm) :=
  (some (mup τ 10 0 y0)).bind fun t43 =>
  if (t43 10 0) ≤ (0 : Int32) then
    (X7_sets t43 (((45 : Int32) + ((12 : Int32) * a1)) + (10 : Int32)) (3 : Int32)).bind fun x67 =>
    (X7_logs x67.2 a1 (4 : Int32) (0 : Int32)).bind fun t75 =>
    some (x67.1, t75)
  else
    some ((0 : Int32), t43)
def X7_burn_J14 (τ : Mm) (a1 : Int32) (y0 : Int32) : Option (Int32 × Mm) :=
  (some (mup τ 10 0 y0)).bind fun t14 =>
  if (t14 10 0) ≤ (0 : Int32) then
    (X7_of t14 a1 (10 : Int32)).bind fun x31 =>
    if x31 = (3 : Int32) then
      X7_burn_J43 t14 a1 (2 : Int32)
    else
      X7_burn_J43 t14 a1 (0 : Int32)
  else
    some ((0 : Int32), t14)
def X7_burn (τ : Mm) (a1 : Int32) : Option (Int32 × Mm) :=
  (X7_isDeed τ a1).bind fun x3 =>
  if x3 = (0 : Int32) then
    X7_burn_J14 τ a1 (1 : Int32)
  else
    X7_burn_J14 τ a1 (0 : Int32)
set_option maxHeartbeats 4000000 in
theorem mX7_burn (τ : Mm) (a1 : Int32) (r : Int32) (τ' : Mm) (hf : X7_burn τ a1 = some (r, τ')) : TMi yX7_burn cX7_burn 3 (some .int) 3 85 (fun aK => [.int a1]) r τ τ' := by
  refine TMi.of (by decide) rfl (fun _ _ => Nat.le_of_ble_eq_true rfl) ?_
  intro p l e s m args below meth c D cI cZ o z aK aV Q ls hz hx hb hml hown hts hE hret hI hl
  obtain ⟨H, eH⟩ : ∃ H, H = s.heap := ⟨_, rfl⟩
  obtain ⟨locs, eL⟩ : ∃ L : List Loc, L = [] := ⟨_, rfl⟩
  rw [← eH, ← eL] at hI ⊢
  have hl : lv_has ls 3 [(0, .ref o), (1, .int a1)] := hl
  unfold X7_burn at hf
  have hJ43 : ∀ (τ : Mm) (y0 : Int32) (H : Heap) (locs : List Loc) (ls : Array Slot), X7_burn_J43 τ a1 y0 = some (r, τ') → IT D cI cZ o s H locs τ → lv_has ls 3 [(0, .ref o), (1, .int a1)] → W p l e ({ frames := 3, cells := 0, slots := 0, locals := 85 } : Room) s m args below meth c H locs 0 0 Q (F0 m 43 ls [.int y0, .ref o]) := by
    intro τ y0 H locs ls hf hI hl
    unfold X7_burn_J43 at hf
    obtain ⟨t43, et43, hf⟩ := obd hf
    refine tput hx hb hts hown hE hI 0 (by decide) q2100 rfl (tyX7_ok 0 (by decide)) rfl rfl rfl et43 dX7_burn_43 (fun H locs hI => ?_)
    refine lv_aload_n hx hb dX7_burn_46 rfl (lv_at hl 0 rfl) ?_
    refine tget hx hb hts hown hE hI 0 (by decide) q2100 rfl dX7_burn_47 ?_
    refine lv_if_le (tgt := 55) hx hb dX7_burn_50 (by decide) (fun hc => ?_) (fun hc => ?_)
    · replace hf := ipos hc hf
      refine lv_aload_n hx hb dX7_burn_55 rfl (lv_at hl 0 rfl) ?_
      refine lv_bipush (v := (45 : Int32)) hx hb dX7_burn_56 (by decide) ?_
      refine lv_bipush (v := (12 : Int32)) hx hb dX7_burn_58 (by decide) ?_
      refine lv_iload_n hx hb dX7_burn_60 rfl (lv_at hl 1 rfl) ?_
      refine lv_imul hx hb dX7_burn_61 ?_
      refine lv_iadd hx hb dX7_burn_62 ?_
      refine lv_bipush (v := (10 : Int32)) hx hb dX7_burn_63 (by decide) ?_
      refine lv_iadd hx hb dX7_burn_65 ?_
      refine lv_iconst (v := (3 : Int32)) hx hb dX7_burn_66 (by decide) ?_
      obtain ⟨x67, ex67, hf⟩ := obd hf
      refine tcallI (rest := []) hx hb hts hown hE hz hI hml hl.1 (mX7_sets t43 (((45 : Int32) + ((12 : Int32) * a1)) + (10 : Int32)) (3 : Int32) _ _ ex67) (cwX7_sets hts ⟨Nat.le_of_ble_eq_true rfl, Nat.le_of_ble_eq_true rfl⟩) ⟨Nat.le_of_ble_eq_true rfl, Nat.le_of_ble_eq_true rfl⟩ rfl rfl (lv_room (Nat.le_of_ble_eq_true rfl)) dX7_burn_67 (fun H locs hI => ?_)
      refine lv_istore_n (lv' := [(2, .int x67.1), (0, .ref o), (1, .int a1)]) hx hb dX7_burn_70 rfl hl (by decide) rfl (fun ls hl => ?_)
      refine lv_aload_n hx hb dX7_burn_71 rfl (lv_at hl 1 rfl) ?_
      refine lv_iload_n hx hb dX7_burn_72 rfl (lv_at hl 2 rfl) ?_
      refine lv_iconst (v := (4 : Int32)) hx hb dX7_burn_73 (by decide) ?_
      refine lv_iconst (v := (0 : Int32)) hx hb dX7_burn_74 (by decide) ?_
      obtain ⟨t75, et75, hf⟩ := obd hf
      refine tcallV (rest := []) hx hb hts hown hE hz hI hml hl.1 (mX7_logs x67.2 a1 (4 : Int32) (0 : Int32) _ et75) (cwX7_logs hts ⟨Nat.le_of_ble_eq_true rfl, Nat.le_of_ble_eq_true rfl⟩) ⟨Nat.le_of_ble_eq_true rfl, Nat.le_of_ble_eq_true rfl⟩ rfl rfl (lv_room (Nat.le_of_ble_eq_true rfl)) dX7_burn_75 (fun H locs hI => ?_)
      refine lv_iload_n hx hb dX7_burn_78 rfl (lv_at hl 0 rfl) ?_
      have hf := Prod.mk.inj (Option.some.inj hf)
      rw [hf.1]
      exact hret H locs 79 ls (hf.2 ▸ hI) dX7_burn_79
    · replace hf := ineg hc hf
      refine lv_iconst (v := (0 : Int32)) hx hb dX7_burn_53 (by decide) ?_
      have hf := Prod.mk.inj (Option.some.inj hf)
      rw [hf.1]
      exact hret H locs 54 ls (hf.2 ▸ hI) dX7_burn_54
  have hJ14 : ∀ (τ : Mm) (y0 : Int32) (H : Heap) (locs : List Loc) (ls : Array Slot), X7_burn_J14 τ a1 y0 = some (r, τ') → IT D cI cZ o s H locs τ → lv_has ls 3 [(0, .ref o), (1, .int a1)] → W p l e ({ frames := 3, cells := 0, slots := 0, locals := 85 } : Room) s m args below meth c H locs 0 0 Q (F0 m 14 ls [.int y0, .ref o]) := by
    intro τ y0 H locs ls hf hI hl
    unfold X7_burn_J14 at hf
    obtain ⟨t14, et14, hf⟩ := obd hf
    refine tput hx hb hts hown hE hI 0 (by decide) q2100 rfl (tyX7_ok 0 (by decide)) rfl rfl rfl et14 dX7_burn_14 (fun H locs hI => ?_)
    refine lv_aload_n hx hb dX7_burn_17 rfl (lv_at hl 0 rfl) ?_
    refine tget hx hb hts hown hE hI 0 (by decide) q2100 rfl dX7_burn_18 ?_
    refine lv_if_le (tgt := 26) hx hb dX7_burn_21 (by decide) (fun hc => ?_) (fun hc => ?_)
    · replace hf := ipos hc hf
      refine lv_aload_n hx hb dX7_burn_26 rfl (lv_at hl 0 rfl) ?_
      refine lv_aload_n hx hb dX7_burn_27 rfl (lv_at hl 0 rfl) ?_
      refine lv_iload_n hx hb dX7_burn_28 rfl (lv_at hl 1 rfl) ?_
      refine lv_bipush (v := (10 : Int32)) hx hb dX7_burn_29 (by decide) ?_
      obtain ⟨x31, ex31, hf⟩ := obd hf
      refine tcallI (rest := [.ref o]) hx hb hts hown hE hz hI hml hl.1 (mX7_of t14 a1 (10 : Int32) _ ex31) (cwX7_of hts ⟨Nat.le_of_ble_eq_true rfl, Nat.le_of_ble_eq_true rfl⟩) ⟨Nat.le_of_ble_eq_true rfl, Nat.le_of_ble_eq_true rfl⟩ rfl rfl (lv_room (Nat.le_of_ble_eq_true rfl)) dX7_burn_31 (fun H locs hI => ?_)
      refine lv_iconst (v := (3 : Int32)) hx hb dX7_burn_34 (by decide) ?_
      refine lv_icmp_ne (tgt := 42) hx hb dX7_burn_35 (by decide) (fun hc => ?_) (fun hc => ?_)
      · replace hf := ineg hc hf
        refine lv_iconst (v := (0 : Int32)) hx hb dX7_burn_42 (by decide) ?_
        exact hJ43 t14 (0 : Int32) H locs ls hf hI  (lv_sub hl [0, 1] rfl)
      · replace hf := ipos hc hf
        refine lv_iconst (v := (2 : Int32)) hx hb dX7_burn_38 (by decide) ?_
        refine lv_goto (tgt := 43) hx hb dX7_burn_39 (by decide) ?_
        exact hJ43 t14 (2 : Int32) H locs ls hf hI  (lv_sub hl [0, 1] rfl)
    · replace hf := ineg hc hf
      refine lv_iconst (v := (0 : Int32)) hx hb dX7_burn_24 (by decide) ?_
      have hf := Prod.mk.inj (Option.some.inj hf)
      rw [hf.1]
      exact hret H locs 25 ls (hf.2 ▸ hI) dX7_burn_25
  refine lv_aload_n hx hb dX7_burn_0 rfl (lv_at hl 0 rfl) ?_
  refine lv_aload_n hx hb dX7_burn_1 rfl (lv_at hl 0 rfl) ?_
  refine lv_iload_n hx hb dX7_burn_2 rfl (lv_at hl 1 rfl) ?_
  obtain ⟨x3, ex3, hf⟩ := obd hf
  refine tcallI (rest := [.ref o]) hx hb hts hown hE hz hI hml hl.1 (mX7_isDeed τ a1 _ ex3) (cwX7_isDeed hts ⟨Nat.le_of_ble_eq_true rfl, Nat.le_of_ble_eq_true rfl⟩) ⟨Nat.le_of_ble_eq_true rfl, Nat.le_of_ble_eq_true rfl⟩ rfl rfl (lv_room (Nat.le_of_ble_eq_true rfl)) dX7_burn_3 (fun H locs hI => ?_)
  refine lv_if_ne (tgt := 13) hx hb dX7_burn_6 (by decide) (fun hc => ?_) (fun hc => ?_)
  · replace hf := ineg hc hf
    refine lv_iconst (v := (0 : Int32)) hx hb dX7_burn_13 (by decide) ?_
    exact hJ14 τ (0 : Int32) H locs ls hf hI  (lv_sub hl [0, 1] rfl)
  · replace hf := ipos hc hf
    refine lv_iconst (v := (1 : Int32)) hx hb dX7_burn_9 (by decide) ?_
    refine lv_goto (tgt := 14) hx hb dX7_burn_10 (by decide) ?_
    exact hJ14 τ (1 : Int32) H locs ls hf hI  (lv_sub hl [0, 1] rfl)


def X7_lend_J82 (τ : Mm) (a1 : Int32) (a2 : Int32) (a3 : Int32) (y0 : Int32) : Option (Int32 × Mm) :=
  (some (mup τ 10 0 y0)).bind fun t82 =>
  if (t82 10 0) ≤ (0 : Int32) then
    (X7_coins t82 a1).bind fun x103 =>
    (X7_sets t82 ((15 : Int32) + ((2 : Int32) * a1)) (x103 - a3)).bind fun x108 =>
    (ld 781 (x108.2 0) ((15 : Int32) + ((2 : Int32) * a2))).bind fun x124 =>
    (sto 781 x108.2 0 ((15 : Int32) + ((2 : Int32) * a2)) (x124 + a3)).bind fun t127 =>
    some ((x108.1 - a3), t127)
  else
    some ((0 : Int32), t82)
def X7_lend_J77 (τ : Mm) (a1 : Int32) (a2 : Int32) (a3 : Int32) : Option (Int32 × Mm) :=
  X7_lend_J82 τ a1 a2 a3 (3 : Int32)
def X7_lend_J42 (τ : Mm) (a1 : Int32) (a2 : Int32) (a3 : Int32) (y0 : Int32) : Option (Int32 × Mm) :=
  (some (mup τ 10 0 y0)).bind fun t42 =>
  if (t42 10 0) ≤ (0 : Int32) then
    (X7_coins t42 a1).bind fun x57 =>
    if x57 < a3 then
      X7_lend_J77 t42 a1 a2 a3
    else
      (X7_coins t42 a2).bind fun x66 =>
      if (x66 + a3) ≤ (9999 : Int32) then
        X7_lend_J82 t42 a1 a2 a3 (0 : Int32)
      else
        X7_lend_J77 t42 a1 a2 a3
  else
    some ((0 : Int32), t42)
def X7_lend_J37 (τ : Mm) (a1 : Int32) (a2 : Int32) (a3 : Int32) : Option (Int32 × Mm) :=
  X7_lend_J42 τ a1 a2 a3 (2 : Int32)
def X7_lend_J17 (τ : Mm) (a1 : Int32) (a2 : Int32) (a3 : Int32) : Option (Int32 × Mm) :=
  X7_lend_J42 τ a1 a2 a3 (1 : Int32)
def X7_lend (τ : Mm) (a1 : Int32) (a2 : Int32) (a3 : Int32) : Option (Int32 × Mm) :=
  (X7_isParty τ a1).bind fun x3 =>
  if x3 = (0 : Int32) then
    X7_lend_J17 τ a1 a2 a3
  else
    (X7_isParty τ a2).bind fun x11 =>
    if x11 = (0 : Int32) then
      X7_lend_J17 τ a1 a2 a3
    else
      if a1 = a2 then
        X7_lend_J37 τ a1 a2 a3
      else
        (X7_isIn a3 (1 : Int32) (999 : Int32)).bind fun x31 =>
        if x31 = (0 : Int32) then
          X7_lend_J37 τ a1 a2 a3
        else
          X7_lend_J42 τ a1 a2 a3 (0 : Int32)
set_option maxHeartbeats 4000000 in
theorem mX7_lend (τ : Mm) (a1 : Int32) (a2 : Int32) (a3 : Int32) (r : Int32) (τ' : Mm) (hf : X7_lend τ a1 a2 a3 = some (r, τ')) : TMi yX7_lend cX7_lend 5 (some .int) 3 84 (fun aK => [.int a1, .int a2, .int a3]) r τ τ' := by
  refine TMi.of (by decide) rfl (fun _ _ => Nat.le_of_ble_eq_true rfl) ?_
  intro p l e s m args below meth c D cI cZ o z aK aV Q ls hz hx hb hml hown hts hE hret hI hl
  obtain ⟨H, eH⟩ : ∃ H, H = s.heap := ⟨_, rfl⟩
  obtain ⟨locs, eL⟩ : ∃ L : List Loc, L = [] := ⟨_, rfl⟩
  rw [← eH, ← eL] at hI ⊢
  have hl : lv_has ls 5 [(0, .ref o), (1, .int a1), (2, .int a2), (3, .int a3)] := hl
  unfold X7_lend at hf
  have hJ82 : ∀ (τ : Mm) (y0 : Int32) (H : Heap) (locs : List Loc) (ls : Array Slot), X7_lend_J82 τ a1 a2 a3 y0 = some (r, τ') → IT D cI cZ o s H locs τ → lv_has ls 5 [(0, .ref o), (1, .int a1), (2, .int a2), (3, .int a3)] → W p l e ({ frames := 3, cells := 0, slots := 0, locals := 84 } : Room) s m args below meth c H locs 0 0 Q (F0 m 82 ls [.int y0, .ref o]) := by
    intro τ y0 H locs ls hf hI hl
    unfold X7_lend_J82 at hf
    obtain ⟨t82, et82, hf⟩ := obd hf
    refine tput hx hb hts hown hE hI 0 (by decide) q2100 rfl (tyX7_ok 0 (by decide)) rfl rfl rfl et82 dX7_lend_82 (fun H locs hI => ?_)
    refine lv_aload_n hx hb dX7_lend_85 rfl (lv_at hl 0 rfl) ?_
    refine tget hx hb hts hown hE hI 0 (by decide) q2100 rfl dX7_lend_86 ?_
    refine lv_if_le (tgt := 94) hx hb dX7_lend_89 (by decide) (fun hc => ?_) (fun hc => ?_)
    · replace hf := ipos hc hf
      refine lv_aload_n hx hb dX7_lend_94 rfl (lv_at hl 0 rfl) ?_
      refine lv_bipush (v := (15 : Int32)) hx hb dX7_lend_95 (by decide) ?_
      refine lv_iconst (v := (2 : Int32)) hx hb dX7_lend_97 (by decide) ?_
      refine lv_iload_n hx hb dX7_lend_98 rfl (lv_at hl 1 rfl) ?_
      refine lv_imul hx hb dX7_lend_99 ?_
      refine lv_iadd hx hb dX7_lend_100 ?_
      refine lv_aload_n hx hb dX7_lend_101 rfl (lv_at hl 0 rfl) ?_
      refine lv_iload_n hx hb dX7_lend_102 rfl (lv_at hl 1 rfl) ?_
      obtain ⟨x103, ex103, hf⟩ := obd hf
      refine tcallI (rest := [.int ((15 : Int32) + ((2 : Int32) * a1)), .ref o]) hx hb hts hown hE hz hI hml hl.1 (mX7_coins t82 a1 _ ex103) (cwX7_coins hts ⟨Nat.le_of_ble_eq_true rfl, Nat.le_of_ble_eq_true rfl⟩) ⟨Nat.le_of_ble_eq_true rfl, Nat.le_of_ble_eq_true rfl⟩ rfl rfl (lv_room (Nat.le_of_ble_eq_true rfl)) dX7_lend_103 (fun H locs hI => ?_)
      refine lv_iload_n hx hb dX7_lend_106 rfl (lv_at hl 3 rfl) ?_
      refine lv_isub hx hb dX7_lend_107 ?_
      obtain ⟨x108, ex108, hf⟩ := obd hf
      refine tcallI (rest := []) hx hb hts hown hE hz hI hml hl.1 (mX7_sets t82 ((15 : Int32) + ((2 : Int32) * a1)) (x103 - a3) _ _ ex108) (cwX7_sets hts ⟨Nat.le_of_ble_eq_true rfl, Nat.le_of_ble_eq_true rfl⟩) ⟨Nat.le_of_ble_eq_true rfl, Nat.le_of_ble_eq_true rfl⟩ rfl rfl (lv_room (Nat.le_of_ble_eq_true rfl)) dX7_lend_108 (fun H locs hI => ?_)
      refine lv_istore (lv' := [(4, .int x108.1), (0, .ref o), (1, .int a1), (2, .int a2), (3, .int a3)]) hx hb dX7_lend_111 hl (by decide) rfl (fun ls hl => ?_)
      refine lv_aload_n hx hb dX7_lend_113 rfl (lv_at hl 1 rfl) ?_
      refine tget hx hb hts hown hE hI 1 (by decide) q2101 rfl dX7_lend_114 ?_
      refine lv_bipush (v := (15 : Int32)) hx hb dX7_lend_117 (by decide) ?_
      refine lv_iconst (v := (2 : Int32)) hx hb dX7_lend_119 (by decide) ?_
      refine lv_iload_n hx hb dX7_lend_120 rfl (lv_at hl 3 rfl) ?_
      refine lv_imul hx hb dX7_lend_121 ?_
      refine lv_iadd hx hb dX7_lend_122 ?_
      refine lv_dup2_11 hx hb dX7_lend_123 rfl rfl ?_
      obtain ⟨x124, ex124, hf⟩ := obd hf
      refine tald hx hb hE hI 1 781 rfl ex124 dX7_lend_124 ?_
      refine lv_iload_n hx hb dX7_lend_125 rfl (lv_at hl 4 rfl) ?_
      refine lv_iadd hx hb dX7_lend_126 ?_
      obtain ⟨t127, et127, hf⟩ := obd hf
      refine tast hx hb hE hI 1 781 0 rfl (fun _ => rfl) et127 dX7_lend_127 (fun H locs hI => ?_)
      refine lv_iload hx hb dX7_lend_128 (lv_at hl 0 rfl) ?_
      refine lv_iload_n hx hb dX7_lend_130 rfl (lv_at hl 4 rfl) ?_
      refine lv_isub hx hb dX7_lend_131 ?_
      have hf := Prod.mk.inj (Option.some.inj hf)
      rw [hf.1]
      exact hret H locs 132 ls (hf.2 ▸ hI) dX7_lend_132
    · replace hf := ineg hc hf
      refine lv_iconst (v := (0 : Int32)) hx hb dX7_lend_92 (by decide) ?_
      have hf := Prod.mk.inj (Option.some.inj hf)
      rw [hf.1]
      exact hret H locs 93 ls (hf.2 ▸ hI) dX7_lend_93
  have hJ77 : ∀ (τ : Mm) (H : Heap) (locs : List Loc) (ls : Array Slot), X7_lend_J77 τ a1 a2 a3 = some (r, τ') → IT D cI cZ o s H locs τ → lv_has ls 5 [(0, .ref o), (1, .int a1), (2, .int a2), (3, .int a3)] → W p l e ({ frames := 3, cells := 0, slots := 0, locals := 84 } : Room) s m args below meth c H locs 0 0 Q (F0 m 77 ls [.ref o]) := by
    intro τ  H locs ls hf hI hl
    unfold X7_lend_J77 at hf
    refine lv_iconst (v := (3 : Int32)) hx hb dX7_lend_77 (by decide) ?_
    refine lv_goto (tgt := 82) hx hb dX7_lend_78 (by decide) ?_
    exact hJ82 τ (3 : Int32) H locs ls hf hI  (lv_sub hl [0, 1, 2, 3] rfl)
  have hJ42 : ∀ (τ : Mm) (y0 : Int32) (H : Heap) (locs : List Loc) (ls : Array Slot), X7_lend_J42 τ a1 a2 a3 y0 = some (r, τ') → IT D cI cZ o s H locs τ → lv_has ls 5 [(0, .ref o), (1, .int a1), (2, .int a2), (3, .int a3)] → W p l e ({ frames := 3, cells := 0, slots := 0, locals := 84 } : Room) s m args below meth c H locs 0 0 Q (F0 m 42 ls [.int y0, .ref o]) := by
    intro τ y0 H locs ls hf hI hl
    unfold X7_lend_J42 at hf
    obtain ⟨t42, et42, hf⟩ := obd hf
    refine tput hx hb hts hown hE hI 0 (by decide) q2100 rfl (tyX7_ok 0 (by decide)) rfl rfl rfl et42 dX7_lend_42 (fun H locs hI => ?_)
    refine lv_aload_n hx hb dX7_lend_45 rfl (lv_at hl 0 rfl) ?_
    refine tget hx hb hts hown hE hI 0 (by decide) q2100 rfl dX7_lend_46 ?_
    refine lv_if_le (tgt := 54) hx hb dX7_lend_49 (by decide) (fun hc => ?_) (fun hc => ?_)
    · replace hf := ipos hc hf
      refine lv_aload_n hx hb dX7_lend_54 rfl (lv_at hl 0 rfl) ?_
      refine lv_aload_n hx hb dX7_lend_55 rfl (lv_at hl 0 rfl) ?_
      refine lv_iload_n hx hb dX7_lend_56 rfl (lv_at hl 1 rfl) ?_
      obtain ⟨x57, ex57, hf⟩ := obd hf
      refine tcallI (rest := [.ref o]) hx hb hts hown hE hz hI hml hl.1 (mX7_coins t42 a1 _ ex57) (cwX7_coins hts ⟨Nat.le_of_ble_eq_true rfl, Nat.le_of_ble_eq_true rfl⟩) ⟨Nat.le_of_ble_eq_true rfl, Nat.le_of_ble_eq_true rfl⟩ rfl rfl (lv_room (Nat.le_of_ble_eq_true rfl)) dX7_lend_57 (fun H locs hI => ?_)
      refine lv_iload_n hx hb dX7_lend_60 rfl (lv_at hl 3 rfl) ?_
      refine lv_icmp_lt (tgt := 77) hx hb dX7_lend_61 (by decide) (fun hc => ?_) (fun hc => ?_)
      · replace hf := ipos hc hf
        exact hJ77 t42 H locs ls hf hI  (lv_sub hl [0, 1, 2, 3] rfl)
      · replace hf := ineg hc hf
        refine lv_aload_n hx hb dX7_lend_64 rfl (lv_at hl 0 rfl) ?_
        refine lv_iload_n hx hb dX7_lend_65 rfl (lv_at hl 2 rfl) ?_
        obtain ⟨x66, ex66, hf⟩ := obd hf
        refine tcallI (rest := [.ref o]) hx hb hts hown hE hz hI hml hl.1 (mX7_coins t42 a2 _ ex66) (cwX7_coins hts ⟨Nat.le_of_ble_eq_true rfl, Nat.le_of_ble_eq_true rfl⟩) ⟨Nat.le_of_ble_eq_true rfl, Nat.le_of_ble_eq_true rfl⟩ rfl rfl (lv_room (Nat.le_of_ble_eq_true rfl)) dX7_lend_66 (fun H locs hI => ?_)
        refine lv_iload_n hx hb dX7_lend_69 rfl (lv_at hl 3 rfl) ?_
        refine lv_iadd hx hb dX7_lend_70 ?_
        refine lv_sipush (v := (9999 : Int32)) hx hb dX7_lend_71 (by decide) ?_
        refine lv_icmp_le (tgt := 81) hx hb dX7_lend_74 (by decide) (fun hc => ?_) (fun hc => ?_)
        · replace hf := ipos hc hf
          refine lv_iconst (v := (0 : Int32)) hx hb dX7_lend_81 (by decide) ?_
          exact hJ82 t42 (0 : Int32) H locs ls hf hI  (lv_sub hl [0, 1, 2, 3] rfl)
        · replace hf := ineg hc hf
          exact hJ77 t42 H locs ls hf hI  (lv_sub hl [0, 1, 2, 3] rfl)
    · replace hf := ineg hc hf
      refine lv_iconst (v := (0 : Int32)) hx hb dX7_lend_52 (by decide) ?_
      have hf := Prod.mk.inj (Option.some.inj hf)
      rw [hf.1]
      exact hret H locs 53 ls (hf.2 ▸ hI) dX7_lend_53
  have hJ37 : ∀ (τ : Mm) (H : Heap) (locs : List Loc) (ls : Array Slot), X7_lend_J37 τ a1 a2 a3 = some (r, τ') → IT D cI cZ o s H locs τ → lv_has ls 5 [(0, .ref o), (1, .int a1), (2, .int a2), (3, .int a3)] → W p l e ({ frames := 3, cells := 0, slots := 0, locals := 84 } : Room) s m args below meth c H locs 0 0 Q (F0 m 37 ls [.ref o]) := by
    intro τ  H locs ls hf hI hl
    unfold X7_lend_J37 at hf
    refine lv_iconst (v := (2 : Int32)) hx hb dX7_lend_37 (by decide) ?_
    refine lv_goto (tgt := 42) hx hb dX7_lend_38 (by decide) ?_
    exact hJ42 τ (2 : Int32) H locs ls hf hI  (lv_sub hl [0, 1, 2, 3] rfl)
  have hJ17 : ∀ (τ : Mm) (H : Heap) (locs : List Loc) (ls : Array Slot), X7_lend_J17 τ a1 a2 a3 = some (r, τ') → IT D cI cZ o s H locs τ → lv_has ls 5 [(0, .ref o), (1, .int a1), (2, .int a2), (3, .int a3)] → W p l e ({ frames := 3, cells := 0, slots := 0, locals := 84 } : Room) s m args below meth c H locs 0 0 Q (F0 m 17 ls [.ref o]) := by
    intro τ  H locs ls hf hI hl
    unfold X7_lend_J17 at hf
    refine lv_iconst (v := (1 : Int32)) hx hb dX7_lend_17 (by decide) ?_
    refine lv_goto (tgt := 42) hx hb dX7_lend_18 (by decide) ?_
    exact hJ42 τ (1 : Int32) H locs ls hf hI  (lv_sub hl [0, 1, 2, 3] rfl)
  refine lv_aload_n hx hb dX7_lend_0 rfl (lv_at hl 0 rfl) ?_
  refine lv_aload_n hx hb dX7_lend_1 rfl (lv_at hl 0 rfl) ?_
  refine lv_iload_n hx hb dX7_lend_2 rfl (lv_at hl 1 rfl) ?_
  obtain ⟨x3, ex3, hf⟩ := obd hf
  refine tcallI (rest := [.ref o]) hx hb hts hown hE hz hI hml hl.1 (mX7_isParty τ a1 _ ex3) (cwX7_isParty hts ⟨Nat.le_of_ble_eq_true rfl, Nat.le_of_ble_eq_true rfl⟩) ⟨Nat.le_of_ble_eq_true rfl, Nat.le_of_ble_eq_true rfl⟩ rfl rfl (lv_room (Nat.le_of_ble_eq_true rfl)) dX7_lend_3 (fun H locs hI => ?_)
  refine lv_if_eq (tgt := 17) hx hb dX7_lend_6 (by decide) (fun hc => ?_) (fun hc => ?_)
  · replace hf := ipos hc hf
    exact hJ17 τ H locs ls hf hI  (lv_sub hl [0, 1, 2, 3] rfl)
  · replace hf := ineg hc hf
    refine lv_aload_n hx hb dX7_lend_9 rfl (lv_at hl 0 rfl) ?_
    refine lv_iload_n hx hb dX7_lend_10 rfl (lv_at hl 2 rfl) ?_
    obtain ⟨x11, ex11, hf⟩ := obd hf
    refine tcallI (rest := [.ref o]) hx hb hts hown hE hz hI hml hl.1 (mX7_isParty τ a2 _ ex11) (cwX7_isParty hts ⟨Nat.le_of_ble_eq_true rfl, Nat.le_of_ble_eq_true rfl⟩) ⟨Nat.le_of_ble_eq_true rfl, Nat.le_of_ble_eq_true rfl⟩ rfl rfl (lv_room (Nat.le_of_ble_eq_true rfl)) dX7_lend_11 (fun H locs hI => ?_)
    refine lv_if_ne (tgt := 21) hx hb dX7_lend_14 (by decide) (fun hc => ?_) (fun hc => ?_)
    · replace hf := ineg hc hf
      refine lv_iload_n hx hb dX7_lend_21 rfl (lv_at hl 1 rfl) ?_
      refine lv_iload_n hx hb dX7_lend_22 rfl (lv_at hl 2 rfl) ?_
      refine lv_icmp_eq (tgt := 37) hx hb dX7_lend_23 (by decide) (fun hc => ?_) (fun hc => ?_)
      · replace hf := ipos hc hf
        exact hJ37 τ H locs ls hf hI  (lv_sub hl [0, 1, 2, 3] rfl)
      · replace hf := ineg hc hf
        refine lv_iload_n hx hb dX7_lend_26 rfl (lv_at hl 3 rfl) ?_
        refine lv_iconst (v := (1 : Int32)) hx hb dX7_lend_27 (by decide) ?_
        refine lv_sipush (v := (999 : Int32)) hx hb dX7_lend_28 (by decide) ?_
        obtain ⟨x31, ex31, hf⟩ := obd hf
        refine tcallS (rest := [.ref o]) hx hb hts hown hml hl.1 (mX7_isIn a3 (1 : Int32) (999 : Int32) _ ex31) (cwX7_isIn hts ⟨Nat.le_of_ble_eq_true rfl, Nat.le_of_ble_eq_true rfl⟩) ⟨Nat.le_of_ble_eq_true rfl, Nat.le_of_ble_eq_true rfl⟩ rfl rfl (lv_room (Nat.le_of_ble_eq_true rfl)) dX7_lend_31 ?_
        refine lv_if_ne (tgt := 41) hx hb dX7_lend_34 (by decide) (fun hc => ?_) (fun hc => ?_)
        · replace hf := ineg hc hf
          refine lv_iconst (v := (0 : Int32)) hx hb dX7_lend_41 (by decide) ?_
          exact hJ42 τ (0 : Int32) H locs ls hf hI  (lv_sub hl [0, 1, 2, 3] rfl)
        · replace hf := ipos hc hf
          exact hJ37 τ H locs ls hf hI  (lv_sub hl [0, 1, 2, 3] rfl)
    · replace hf := ipos hc hf
      exact hJ17 τ H locs ls hf hI  (lv_sub hl [0, 1, 2, 3] rfl)


def X7_salt_J16 (τ : Mm) (a1 : Int32) (y0 : Int32) : Option (Int32 × Mm) :=
  (some (mup τ 10 0 y0)).bind fun t16 =>
  if (t16 10 0) ≤ (0 : Int32) then
    (X7_sets t16 (7 : Int32) a1).bind fun x34 =>
    some (x34.1, x34.2)
  else
    some ((0 : Int32), t16)
def X7_salt (τ : Mm) (a1 : Int32) : Option (Int32 × Mm) :=
  (X7_isIn a1 (0 : Int32) (9 : Int32)).bind fun x5 =>
  if x5 = (0 : Int32) then
    X7_salt_J16 τ a1 (1 : Int32)
  else
    X7_salt_J16 τ a1 (0 : Int32)
set_option maxHeartbeats 4000000 in
theorem mX7_salt (τ : Mm) (a1 : Int32) (r : Int32) (τ' : Mm) (hf : X7_salt τ a1 = some (r, τ')) : TMi yX7_salt cX7_salt 2 (some .int) 3 84 (fun aK => [.int a1]) r τ τ' := by
  refine TMi.of (by decide) rfl (fun _ _ => Nat.le_of_ble_eq_true rfl) ?_
  intro p l e s m args below meth c D cI cZ o z aK aV Q ls hz hx hb hml hown hts hE hret hI hl
  obtain ⟨H, eH⟩ : ∃ H, H = s.heap := ⟨_, rfl⟩
  obtain ⟨locs, eL⟩ : ∃ L : List Loc, L = [] := ⟨_, rfl⟩
  rw [← eH, ← eL] at hI ⊢
  have hl : lv_has ls 2 [(0, .ref o), (1, .int a1)] := hl
  unfold X7_salt at hf
  have hJ16 : ∀ (τ : Mm) (y0 : Int32) (H : Heap) (locs : List Loc) (ls : Array Slot), X7_salt_J16 τ a1 y0 = some (r, τ') → IT D cI cZ o s H locs τ → lv_has ls 2 [(0, .ref o), (1, .int a1)] → W p l e ({ frames := 3, cells := 0, slots := 0, locals := 84 } : Room) s m args below meth c H locs 0 0 Q (F0 m 16 ls [.int y0, .ref o]) := by
    intro τ y0 H locs ls hf hI hl
    unfold X7_salt_J16 at hf
    obtain ⟨t16, et16, hf⟩ := obd hf
    refine tput hx hb hts hown hE hI 0 (by decide) q2100 rfl (tyX7_ok 0 (by decide)) rfl rfl rfl et16 dX7_salt_16 (fun H locs hI => ?_)
    refine lv_aload_n hx hb dX7_salt_19 rfl (lv_at hl 0 rfl) ?_
    refine tget hx hb hts hown hE hI 0 (by decide) q2100 rfl dX7_salt_20 ?_
    refine lv_if_le (tgt := 30) hx hb dX7_salt_23 (by decide) (fun hc => ?_) (fun hc => ?_)
    · replace hf := ipos hc hf
      refine lv_aload_n hx hb dX7_salt_30 rfl (lv_at hl 0 rfl) ?_
      refine lv_bipush (v := (7 : Int32)) hx hb dX7_salt_31 (by decide) ?_
      refine lv_iload_n hx hb dX7_salt_33 rfl (lv_at hl 1 rfl) ?_
      obtain ⟨x34, ex34, hf⟩ := obd hf
      refine tcallI (rest := []) hx hb hts hown hE hz hI hml hl.1 (mX7_sets t16 (7 : Int32) a1 _ _ ex34) (cwX7_sets hts ⟨Nat.le_of_ble_eq_true rfl, Nat.le_of_ble_eq_true rfl⟩) ⟨Nat.le_of_ble_eq_true rfl, Nat.le_of_ble_eq_true rfl⟩ rfl rfl (lv_room (Nat.le_of_ble_eq_true rfl)) dX7_salt_34 (fun H locs hI => ?_)
      have hf := Prod.mk.inj (Option.some.inj hf)
      rw [hf.1]
      exact hret H locs 37 ls (hf.2 ▸ hI) dX7_salt_37
    · replace hf := ineg hc hf
      refine lv_iconst (v := (0 : Int32)) hx hb dX7_salt_26 (by decide) ?_
      refine lv_goto (tgt := 37) hx hb dX7_salt_27 (by decide) ?_
      have hf := Prod.mk.inj (Option.some.inj hf)
      rw [hf.1]
      exact hret H locs 37 ls (hf.2 ▸ hI) dX7_salt_37
  refine lv_aload_n hx hb dX7_salt_0 rfl (lv_at hl 0 rfl) ?_
  refine lv_iload_n hx hb dX7_salt_1 rfl (lv_at hl 1 rfl) ?_
  refine lv_iconst (v := (0 : Int32)) hx hb dX7_salt_2 (by decide) ?_
  refine lv_bipush (v := (9 : Int32)) hx hb dX7_salt_3 (by decide) ?_
  obtain ⟨x5, ex5, hf⟩ := obd hf
  refine tcallS (rest := [.ref o]) hx hb hts hown hml hl.1 (mX7_isIn a1 (0 : Int32) (9 : Int32) _ ex5) (cwX7_isIn hts ⟨Nat.le_of_ble_eq_true rfl, Nat.le_of_ble_eq_true rfl⟩) ⟨Nat.le_of_ble_eq_true rfl, Nat.le_of_ble_eq_true rfl⟩ rfl rfl (lv_room (Nat.le_of_ble_eq_true rfl)) dX7_salt_5 ?_
  refine lv_if_ne (tgt := 15) hx hb dX7_salt_8 (by decide) (fun hc => ?_) (fun hc => ?_)
  · replace hf := ineg hc hf
    refine lv_iconst (v := (0 : Int32)) hx hb dX7_salt_15 (by decide) ?_
    exact hJ16 τ (0 : Int32) H locs ls hf hI  (lv_sub hl [0, 1] rfl)
  · replace hf := ipos hc hf
    refine lv_iconst (v := (1 : Int32)) hx hb dX7_salt_11 (by decide) ?_
    refine lv_goto (tgt := 16) hx hb dX7_salt_12 (by decide) ?_
    exact hJ16 τ (1 : Int32) H locs ls hf hI  (lv_sub hl [0, 1] rfl)


def X7_bar_J36 (τ : Mm) (a1 : Int32) (a2 : Int32) (y0 : Int32) : Option (Int32 × Mm) :=
  (some (mup τ 10 0 y0)).bind fun t36 =>
  if (t36 10 0) ≤ (0 : Int32) then
    (X7_sets t36 (((45 : Int32) + ((12 : Int32) * a1)) + (6 : Int32)) a2).bind fun x62 =>
    some (x62.1, x62.2)
  else
    some ((0 : Int32), t36)
def X7_bar_J26 (τ : Mm) (a1 : Int32) (a2 : Int32) : Option (Int32 × Mm) :=
  if a2 < a1 then
    X7_bar_J36 τ a1 a2 (0 : Int32)
  else
    X7_bar_J36 τ a1 a2 (2 : Int32)
def X7_bar_J22 (τ : Mm) (a1 : Int32) (a2 : Int32) : Option (Int32 × Mm) :=
  X7_bar_J36 τ a1 a2 (1 : Int32)
def X7_bar (τ : Mm) (a1 : Int32) (a2 : Int32) : Option (Int32 × Mm) :=
  (X7_isDeed τ a1).bind fun x3 =>
  if x3 = (0 : Int32) then
    X7_bar_J22 τ a1 a2
  else
    if a2 = (-1 : Int32) then
      X7_bar_J26 τ a1 a2
    else
      (X7_isDeed τ a2).bind fun x16 =>
      if x16 = (0 : Int32) then
        X7_bar_J22 τ a1 a2
      else
        X7_bar_J26 τ a1 a2
set_option maxHeartbeats 4000000 in
theorem mX7_bar (τ : Mm) (a1 : Int32) (a2 : Int32) (r : Int32) (τ' : Mm) (hf : X7_bar τ a1 a2 = some (r, τ')) : TMi yX7_bar cX7_bar 3 (some .int) 3 84 (fun aK => [.int a1, .int a2]) r τ τ' := by
  refine TMi.of (by decide) rfl (fun _ _ => Nat.le_of_ble_eq_true rfl) ?_
  intro p l e s m args below meth c D cI cZ o z aK aV Q ls hz hx hb hml hown hts hE hret hI hl
  obtain ⟨H, eH⟩ : ∃ H, H = s.heap := ⟨_, rfl⟩
  obtain ⟨locs, eL⟩ : ∃ L : List Loc, L = [] := ⟨_, rfl⟩
  rw [← eH, ← eL] at hI ⊢
  have hl : lv_has ls 3 [(0, .ref o), (1, .int a1), (2, .int a2)] := hl
  unfold X7_bar at hf
  have hJ36 : ∀ (τ : Mm) (y0 : Int32) (H : Heap) (locs : List Loc) (ls : Array Slot), X7_bar_J36 τ a1 a2 y0 = some (r, τ') → IT D cI cZ o s H locs τ → lv_has ls 3 [(0, .ref o), (1, .int a1), (2, .int a2)] → W p l e ({ frames := 3, cells := 0, slots := 0, locals := 84 } : Room) s m args below meth c H locs 0 0 Q (F0 m 36 ls [.int y0, .ref o]) := by
    intro τ y0 H locs ls hf hI hl
    unfold X7_bar_J36 at hf
    obtain ⟨t36, et36, hf⟩ := obd hf
    refine tput hx hb hts hown hE hI 0 (by decide) q2100 rfl (tyX7_ok 0 (by decide)) rfl rfl rfl et36 dX7_bar_36 (fun H locs hI => ?_)
    refine lv_aload_n hx hb dX7_bar_39 rfl (lv_at hl 0 rfl) ?_
    refine tget hx hb hts hown hE hI 0 (by decide) q2100 rfl dX7_bar_40 ?_
    refine lv_if_le (tgt := 50) hx hb dX7_bar_43 (by decide) (fun hc => ?_) (fun hc => ?_)
    · replace hf := ipos hc hf
      refine lv_aload_n hx hb dX7_bar_50 rfl (lv_at hl 0 rfl) ?_
      refine lv_bipush (v := (45 : Int32)) hx hb dX7_bar_51 (by decide) ?_
      refine lv_bipush (v := (12 : Int32)) hx hb dX7_bar_53 (by decide) ?_
      refine lv_iload_n hx hb dX7_bar_55 rfl (lv_at hl 1 rfl) ?_
      refine lv_imul hx hb dX7_bar_56 ?_
      refine lv_iadd hx hb dX7_bar_57 ?_
      refine lv_bipush (v := (6 : Int32)) hx hb dX7_bar_58 (by decide) ?_
      refine lv_iadd hx hb dX7_bar_60 ?_
      refine lv_iload_n hx hb dX7_bar_61 rfl (lv_at hl 2 rfl) ?_
      obtain ⟨x62, ex62, hf⟩ := obd hf
      refine tcallI (rest := []) hx hb hts hown hE hz hI hml hl.1 (mX7_sets t36 (((45 : Int32) + ((12 : Int32) * a1)) + (6 : Int32)) a2 _ _ ex62) (cwX7_sets hts ⟨Nat.le_of_ble_eq_true rfl, Nat.le_of_ble_eq_true rfl⟩) ⟨Nat.le_of_ble_eq_true rfl, Nat.le_of_ble_eq_true rfl⟩ rfl rfl (lv_room (Nat.le_of_ble_eq_true rfl)) dX7_bar_62 (fun H locs hI => ?_)
      have hf := Prod.mk.inj (Option.some.inj hf)
      rw [hf.1]
      exact hret H locs 65 ls (hf.2 ▸ hI) dX7_bar_65
    · replace hf := ineg hc hf
      refine lv_iconst (v := (0 : Int32)) hx hb dX7_bar_46 (by decide) ?_
      refine lv_goto (tgt := 65) hx hb dX7_bar_47 (by decide) ?_
      have hf := Prod.mk.inj (Option.some.inj hf)
      rw [hf.1]
      exact hret H locs 65 ls (hf.2 ▸ hI) dX7_bar_65
  have hJ26 : ∀ (τ : Mm) (H : Heap) (locs : List Loc) (ls : Array Slot), X7_bar_J26 τ a1 a2 = some (r, τ') → IT D cI cZ o s H locs τ → lv_has ls 3 [(0, .ref o), (1, .int a1), (2, .int a2)] → W p l e ({ frames := 3, cells := 0, slots := 0, locals := 84 } : Room) s m args below meth c H locs 0 0 Q (F0 m 26 ls [.ref o]) := by
    intro τ  H locs ls hf hI hl
    unfold X7_bar_J26 at hf
    refine lv_iload_n hx hb dX7_bar_26 rfl (lv_at hl 2 rfl) ?_
    refine lv_iload_n hx hb dX7_bar_27 rfl (lv_at hl 1 rfl) ?_
    refine lv_icmp_lt (tgt := 35) hx hb dX7_bar_28 (by decide) (fun hc => ?_) (fun hc => ?_)
    · replace hf := ipos hc hf
      refine lv_iconst (v := (0 : Int32)) hx hb dX7_bar_35 (by decide) ?_
      exact hJ36 τ (0 : Int32) H locs ls hf hI  (lv_sub hl [0, 1, 2] rfl)
    · replace hf := ineg hc hf
      refine lv_iconst (v := (2 : Int32)) hx hb dX7_bar_31 (by decide) ?_
      refine lv_goto (tgt := 36) hx hb dX7_bar_32 (by decide) ?_
      exact hJ36 τ (2 : Int32) H locs ls hf hI  (lv_sub hl [0, 1, 2] rfl)
  have hJ22 : ∀ (τ : Mm) (H : Heap) (locs : List Loc) (ls : Array Slot), X7_bar_J22 τ a1 a2 = some (r, τ') → IT D cI cZ o s H locs τ → lv_has ls 3 [(0, .ref o), (1, .int a1), (2, .int a2)] → W p l e ({ frames := 3, cells := 0, slots := 0, locals := 84 } : Room) s m args below meth c H locs 0 0 Q (F0 m 22 ls [.ref o]) := by
    intro τ  H locs ls hf hI hl
    unfold X7_bar_J22 at hf
    refine lv_iconst (v := (1 : Int32)) hx hb dX7_bar_22 (by decide) ?_
    refine lv_goto (tgt := 36) hx hb dX7_bar_23 (by decide) ?_
    exact hJ36 τ (1 : Int32) H locs ls hf hI  (lv_sub hl [0, 1, 2] rfl)
  refine lv_aload_n hx hb dX7_bar_0 rfl (lv_at hl 0 rfl) ?_
  refine lv_aload_n hx hb dX7_bar_1 rfl (lv_at hl 0 rfl) ?_
  refine lv_iload_n hx hb dX7_bar_2 rfl (lv_at hl 1 rfl) ?_
  obtain ⟨x3, ex3, hf⟩ := obd hf
  refine tcallI (rest := [.ref o]) hx hb hts hown hE hz hI hml hl.1 (mX7_isDeed τ a1 _ ex3) (cwX7_isDeed hts ⟨Nat.le_of_ble_eq_true rfl, Nat.le_of_ble_eq_true rfl⟩) ⟨Nat.le_of_ble_eq_true rfl, Nat.le_of_ble_eq_true rfl⟩ rfl rfl (lv_room (Nat.le_of_ble_eq_true rfl)) dX7_bar_3 (fun H locs hI => ?_)
  refine lv_if_eq (tgt := 22) hx hb dX7_bar_6 (by decide) (fun hc => ?_) (fun hc => ?_)
  · replace hf := ipos hc hf
    exact hJ22 τ H locs ls hf hI  (lv_sub hl [0, 1, 2] rfl)
  · replace hf := ineg hc hf
    refine lv_iload_n hx hb dX7_bar_9 rfl (lv_at hl 2 rfl) ?_
    refine lv_iconst (v := (-1 : Int32)) hx hb dX7_bar_10 (by decide) ?_
    refine lv_icmp_eq (tgt := 26) hx hb dX7_bar_11 (by decide) (fun hc => ?_) (fun hc => ?_)
    · replace hf := ipos hc hf
      exact hJ26 τ H locs ls hf hI  (lv_sub hl [0, 1, 2] rfl)
    · replace hf := ineg hc hf
      refine lv_aload_n hx hb dX7_bar_14 rfl (lv_at hl 0 rfl) ?_
      refine lv_iload_n hx hb dX7_bar_15 rfl (lv_at hl 2 rfl) ?_
      obtain ⟨x16, ex16, hf⟩ := obd hf
      refine tcallI (rest := [.ref o]) hx hb hts hown hE hz hI hml hl.1 (mX7_isDeed τ a2 _ ex16) (cwX7_isDeed hts ⟨Nat.le_of_ble_eq_true rfl, Nat.le_of_ble_eq_true rfl⟩) ⟨Nat.le_of_ble_eq_true rfl, Nat.le_of_ble_eq_true rfl⟩ rfl rfl (lv_room (Nat.le_of_ble_eq_true rfl)) dX7_bar_16 (fun H locs hI => ?_)
      refine lv_if_ne (tgt := 26) hx hb dX7_bar_19 (by decide) (fun hc => ?_) (fun hc => ?_)
      · replace hf := ineg hc hf
        exact hJ26 τ H locs ls hf hI  (lv_sub hl [0, 1, 2] rfl)
      · replace hf := ipos hc hf
        exact hJ22 τ H locs ls hf hI  (lv_sub hl [0, 1, 2] rfl)


def X7_reads (τ : Mm) : Option (Int32 × Mm) :=
  (some (mup τ 10 0 (0 : Int32))).bind fun t2 =>
  (X7_inState t2 (1 : Int32)).bind fun x7 =>
  some (x7, t2)
set_option maxHeartbeats 4000000 in
theorem mX7_reads (τ : Mm) (r : Int32) (τ' : Mm) (hf : X7_reads τ = some (r, τ')) : TMi yX7_reads cX7_reads 1 (some .int) 3 85 (fun aK => []) r τ τ' := by
  refine TMi.of (by decide) rfl (fun _ _ => Nat.le_of_ble_eq_true rfl) ?_
  intro p l e s m args below meth c D cI cZ o z aK aV Q ls hz hx hb hml hown hts hE hret hI hl
  obtain ⟨H, eH⟩ : ∃ H, H = s.heap := ⟨_, rfl⟩
  obtain ⟨locs, eL⟩ : ∃ L : List Loc, L = [] := ⟨_, rfl⟩
  rw [← eH, ← eL] at hI ⊢
  have hl : lv_has ls 1 [(0, .ref o)] := hl
  unfold X7_reads at hf
  refine lv_aload_n hx hb dX7_reads_0 rfl (lv_at hl 0 rfl) ?_
  refine lv_iconst (v := (0 : Int32)) hx hb dX7_reads_1 (by decide) ?_
  obtain ⟨t2, et2, hf⟩ := obd hf
  refine tput hx hb hts hown hE hI 0 (by decide) q2100 rfl (tyX7_ok 0 (by decide)) rfl rfl rfl et2 dX7_reads_2 (fun H locs hI => ?_)
  refine lv_aload_n hx hb dX7_reads_5 rfl (lv_at hl 0 rfl) ?_
  refine lv_iconst (v := (1 : Int32)) hx hb dX7_reads_6 (by decide) ?_
  obtain ⟨x7, ex7, hf⟩ := obd hf
  refine tcallI (rest := []) hx hb hts hown hE hz hI hml hl.1 (mX7_inState t2 (1 : Int32) _ ex7) (cwX7_inState hts ⟨Nat.le_of_ble_eq_true rfl, Nat.le_of_ble_eq_true rfl⟩) ⟨Nat.le_of_ble_eq_true rfl, Nat.le_of_ble_eq_true rfl⟩ rfl rfl (lv_room (Nat.le_of_ble_eq_true rfl)) dX7_reads_7 (fun H locs hI => ?_)
  have hf := Prod.mk.inj (Option.some.inj hf)
  rw [hf.1]
  exact hret H locs 10 ls (hf.2 ▸ hI) dX7_reads_10


def X7_blank (τ : Mm) : Option (Int32 × Mm) :=
  (some (mup τ 10 0 (0 : Int32))).bind fun t2 =>
  (X7_inState t2 (0 : Int32)).bind fun x7 =>
  some (x7, t2)
set_option maxHeartbeats 4000000 in
theorem mX7_blank (τ : Mm) (r : Int32) (τ' : Mm) (hf : X7_blank τ = some (r, τ')) : TMi yX7_blank cX7_blank 1 (some .int) 3 85 (fun aK => []) r τ τ' := by
  refine TMi.of (by decide) rfl (fun _ _ => Nat.le_of_ble_eq_true rfl) ?_
  intro p l e s m args below meth c D cI cZ o z aK aV Q ls hz hx hb hml hown hts hE hret hI hl
  obtain ⟨H, eH⟩ : ∃ H, H = s.heap := ⟨_, rfl⟩
  obtain ⟨locs, eL⟩ : ∃ L : List Loc, L = [] := ⟨_, rfl⟩
  rw [← eH, ← eL] at hI ⊢
  have hl : lv_has ls 1 [(0, .ref o)] := hl
  unfold X7_blank at hf
  refine lv_aload_n hx hb dX7_blank_0 rfl (lv_at hl 0 rfl) ?_
  refine lv_iconst (v := (0 : Int32)) hx hb dX7_blank_1 (by decide) ?_
  obtain ⟨t2, et2, hf⟩ := obd hf
  refine tput hx hb hts hown hE hI 0 (by decide) q2100 rfl (tyX7_ok 0 (by decide)) rfl rfl rfl et2 dX7_blank_2 (fun H locs hI => ?_)
  refine lv_aload_n hx hb dX7_blank_5 rfl (lv_at hl 0 rfl) ?_
  refine lv_iconst (v := (0 : Int32)) hx hb dX7_blank_6 (by decide) ?_
  obtain ⟨x7, ex7, hf⟩ := obd hf
  refine tcallI (rest := []) hx hb hts hown hE hz hI hml hl.1 (mX7_inState t2 (0 : Int32) _ ex7) (cwX7_inState hts ⟨Nat.le_of_ble_eq_true rfl, Nat.le_of_ble_eq_true rfl⟩) ⟨Nat.le_of_ble_eq_true rfl, Nat.le_of_ble_eq_true rfl⟩ rfl rfl (lv_room (Nat.le_of_ble_eq_true rfl)) dX7_blank_7 (fun H locs hI => ?_)
  have hf := Prod.mk.inj (Option.some.inj hf)
  rw [hf.1]
  exact hret H locs 10 ls (hf.2 ▸ hI) dX7_blank_10


def X7_valid_L9 (τ : Mm) (w9 : Int32 × Int32) : Option ((Int32 × Int32) ⊕ (Int32)) :=
  if (τ 0 5) ≤ w9.2 then
    some (.inr w9.1)
  else
    (X7_isValidNow τ w9.2).bind fun x22 =>
    if x22 = (0 : Int32) then
      (some (w9.1 ||| (0 : Int32))).bind fun v36 =>
      (some (w9.2 + (1 : Int32))).bind fun v37 =>
      some (.inl (v36, v37))
    else
      (some (w9.1 ||| ((1 : Int32) <<< (w9.2 &&& (31 : Int32))))).bind fun v36_5 =>
      (some (w9.2 + (1 : Int32))).bind fun v37_6 =>
      some (.inl (v36_5, v37_6))
def X7_valid (τ : Mm) : Option (Int32 × Mm) :=
  (some (mup τ 10 0 (0 : Int32))).bind fun t2 =>
  (loopO (X7_valid_L9 t2) FU ((0 : Int32), (0 : Int32))).bind fun e9 =>
  some (e9, t2)
set_option maxHeartbeats 4000000 in
theorem mX7_valid (τ : Mm) (r : Int32) (τ' : Mm) (hf : X7_valid τ = some (r, τ')) : TMi yX7_valid cX7_valid 3 (some .int) 4 106 (fun aK => []) r τ τ' := by
  refine TMi.of (by decide) rfl (fun _ _ => Nat.le_of_ble_eq_true rfl) ?_
  intro p l e s m args below meth c D cI cZ o z aK aV Q ls hz hx hb hml hown hts hE hret hI hl
  obtain ⟨H, eH⟩ : ∃ H, H = s.heap := ⟨_, rfl⟩
  obtain ⟨locs, eL⟩ : ∃ L : List Loc, L = [] := ⟨_, rfl⟩
  rw [← eH, ← eL] at hI ⊢
  have hl : lv_has ls 3 [(0, .ref o)] := hl
  unfold X7_valid at hf
  refine lv_aload_n hx hb dX7_valid_0 rfl (lv_at hl 0 rfl) ?_
  refine lv_iconst (v := (0 : Int32)) hx hb dX7_valid_1 (by decide) ?_
  obtain ⟨t2, et2, hf⟩ := obd hf
  refine tput hx hb hts hown hE hI 0 (by decide) q2100 rfl (tyX7_ok 0 (by decide)) rfl rfl rfl et2 dX7_valid_2 (fun H locs hI => ?_)
  refine lv_iconst (v := (0 : Int32)) hx hb dX7_valid_5 (by decide) ?_
  refine lv_istore_n (lv' := [(1, .int (0 : Int32)), (0, .ref o)]) hx hb dX7_valid_6 rfl hl (by decide) rfl (fun ls hl => ?_)
  refine lv_iconst (v := (0 : Int32)) hx hb dX7_valid_7 (by decide) ?_
  refine lv_istore_n (lv' := [(2, .int (0 : Int32)), (1, .int (0 : Int32)), (0, .ref o)]) hx hb dX7_valid_8 rfl hl (by decide) rfl (fun ls hl => ?_)
  obtain ⟨e9, he9, hf⟩ := obd hf
  have hs9 : ∀ (τ : Mm) , ∀ (w9 : Int32 × Int32) (o9 : (Int32 × Int32) ⊕ (Int32)), X7_valid_L9 τ w9 = some o9 → (∀ wx_, o9 = .inl wx_ → ∀ (H : Heap) (locs : List Loc) (ls : Array Slot), IT D cI cZ o s H locs τ → lv_has ls 3 [(0, .ref o), (1, .int wx_.1), (2, .int wx_.2)] → W p l e ({ frames := 4, cells := 0, slots := 0, locals := 106 } : Room) s m args below meth c H locs 0 0 Q (F0 m 9 ls [])) → (∀ ex_, o9 = .inr ex_ → ∀ (H : Heap) (locs : List Loc) (ls : Array Slot), IT D cI cZ o s H locs τ → lv_has ls 3 [(1, .int ex_)] → W p l e ({ frames := 4, cells := 0, slots := 0, locals := 106 } : Room) s m args below meth c H locs 0 0 Q (F0 m 43 ls [])) → ∀ (H : Heap) (locs : List Loc) (ls : Array Slot), IT D cI cZ o s H locs τ → lv_has ls 3 [(0, .ref o), (1, .int w9.1), (2, .int w9.2)] → W p l e ({ frames := 4, cells := 0, slots := 0, locals := 106 } : Room) s m args below meth c H locs 0 0 Q (F0 m 9 ls []) := by
    intro τ  w9 o9 hf hk hq H locs ls hI hl
    unfold X7_valid_L9 at hf
    refine lv_iload_n hx hb dX7_valid_9 rfl (lv_at hl 2 rfl) ?_
    refine lv_aload_n hx hb dX7_valid_10 rfl (lv_at hl 0 rfl) ?_
    refine tget hx hb hts hown hE hI 1 (by decide) q2101 rfl dX7_valid_11 ?_
    refine lv_iconst (v := (5 : Int32)) hx hb dX7_valid_14 (by decide) ?_
    refine taldc hx hb hE hI 1 781 5 rfl (by decide) (by decide) dX7_valid_15 ?_
    refine lv_icmp_ge (tgt := 43) hx hb dX7_valid_16 (by decide) (fun hc => ?_) (fun hc => ?_)
    · replace hf := ipos hc hf
      exact hq _ (Option.some.inj hf).symm H locs ls hI (lv_sub hl [1] rfl)
    · replace hf := ineg hc hf
      refine lv_iload_n hx hb dX7_valid_19 rfl (lv_at hl 1 rfl) ?_
      refine lv_aload_n hx hb dX7_valid_20 rfl (lv_at hl 0 rfl) ?_
      refine lv_iload_n hx hb dX7_valid_21 rfl (lv_at hl 2 rfl) ?_
      obtain ⟨x22, ex22, hf⟩ := obd hf
      refine tcallI (rest := [.int w9.1]) hx hb hts hown hE hz hI hml hl.1 (mX7_isValidNow τ w9.2 _ ex22) (cwX7_isValidNow hts ⟨Nat.le_of_ble_eq_true rfl, Nat.le_of_ble_eq_true rfl⟩) ⟨Nat.le_of_ble_eq_true rfl, Nat.le_of_ble_eq_true rfl⟩ rfl rfl (lv_room (Nat.le_of_ble_eq_true rfl)) dX7_valid_22 (fun H locs hI => ?_)
      refine lv_if_eq (tgt := 34) hx hb dX7_valid_25 (by decide) (fun hc => ?_) (fun hc => ?_)
      · replace hf := ipos hc hf
        refine lv_iconst (v := (0 : Int32)) hx hb dX7_valid_34 (by decide) ?_
        refine lv_ior hx hb dX7_valid_35 ?_
        obtain ⟨v36, ev36, hf⟩ := obd hf
        refine nmI ev36 ?_
        refine lv_istore_n (lv' := [(1, .int v36), (0, .ref o), (2, .int w9.2)]) hx hb dX7_valid_36 rfl hl (by decide) rfl (fun ls hl => ?_)
        obtain ⟨v37, ev37, hf⟩ := obd hf
        refine lv_iinc (v := v37) (lv' := [(2, .int v37), (1, .int v36), (0, .ref o)]) hx hb dX7_valid_37 hl (k := 2) rfl (iiE ev37 (by decide)) (by decide) rfl (fun ls hl => ?_)
        refine lv_goto (tgt := 9) hx hb dX7_valid_40 (by decide) ?_
        exact hk _ (Option.some.inj hf).symm H locs ls hI (lv_sub hl [2, 1, 0] rfl)
      · replace hf := ineg hc hf
        refine lv_iconst (v := (1 : Int32)) hx hb dX7_valid_28 (by decide) ?_
        refine lv_iload_n hx hb dX7_valid_29 rfl (lv_at hl 2 rfl) ?_
        refine lv_ishl hx hb dX7_valid_30 ?_
        refine lv_goto (tgt := 35) hx hb dX7_valid_31 (by decide) ?_
        refine lv_ior hx hb dX7_valid_35 ?_
        obtain ⟨v36_5, ev36_5, hf⟩ := obd hf
        refine nmI ev36_5 ?_
        refine lv_istore_n (lv' := [(1, .int v36_5), (0, .ref o), (2, .int w9.2)]) hx hb dX7_valid_36 rfl hl (by decide) rfl (fun ls hl => ?_)
        obtain ⟨v37_6, ev37_6, hf⟩ := obd hf
        refine lv_iinc (v := v37_6) (lv' := [(2, .int v37_6), (1, .int v36_5), (0, .ref o)]) hx hb dX7_valid_37 hl (k := 2) rfl (iiE ev37_6 (by decide)) (by decide) rfl (fun ls hl => ?_)
        refine lv_goto (tgt := 9) hx hb dX7_valid_40 (by decide) ?_
        exact hk _ (Option.some.inj hf).symm H locs ls hI (lv_sub hl [2, 1, 0] rfl)
  refine loopO_W (Wat := fun w9 => ∀ (H : Heap) (locs : List Loc) (ls : Array Slot), IT D cI cZ o s H locs t2 → lv_has ls 3 [(0, .ref o), (1, .int w9.1), (2, .int w9.2)] → W p l e ({ frames := 4, cells := 0, slots := 0, locals := 106 } : Room) s m args below meth c H locs 0 0 Q (F0 m 9 ls [])) (Wex := fun ex_ => ∀ (H : Heap) (locs : List Loc) (ls : Array Slot), IT D cI cZ o s H locs t2 → lv_has ls 3 [(1, .int ex_)] → W p l e ({ frames := 4, cells := 0, slots := 0, locals := 106 } : Room) s m args below meth c H locs 0 0 Q (F0 m 43 ls [])) (hs9 t2) FU _ e9 he9 ?_ H locs ls hI (lv_sub hl [2, 1, 0] rfl)
  · skip
    intro H locs ls hI hl
    refine lv_iload_n hx hb dX7_valid_43 rfl (lv_at hl 0 rfl) ?_
    have hf := Prod.mk.inj (Option.some.inj hf)
    rw [hf.1]
    exact hret H locs 44 ls (hf.2 ▸ hI) dX7_valid_44


def X7_when_J14 (τ : Mm) (a1 : Int32) (y0 : Int32) : Option (Int32 × Mm) :=
  (some (mup τ 10 0 y0)).bind fun t14 =>
  if (t14 10 0) ≤ (0 : Int32) then
    (X7_whenOf t14 a1).bind fun x30 =>
    some (x30.1, x30.2)
  else
    some ((0 : Int32), t14)
def X7_when (τ : Mm) (a1 : Int32) : Option (Int32 × Mm) :=
  (X7_isDeed τ a1).bind fun x3 =>
  if x3 = (0 : Int32) then
    X7_when_J14 τ a1 (1 : Int32)
  else
    X7_when_J14 τ a1 (0 : Int32)
set_option maxHeartbeats 4000000 in
theorem mX7_when (τ : Mm) (a1 : Int32) (r : Int32) (τ' : Mm) (hf : X7_when τ a1 = some (r, τ')) : TMi yX7_when cX7_when 2 (some .int) 696 20142 (fun aK => [.int a1]) r τ τ' := by
  refine TMi.of (by decide) rfl (fun _ _ => Nat.le_of_ble_eq_true rfl) ?_
  intro p l e s m args below meth c D cI cZ o z aK aV Q ls hz hx hb hml hown hts hE hret hI hl
  obtain ⟨H, eH⟩ : ∃ H, H = s.heap := ⟨_, rfl⟩
  obtain ⟨locs, eL⟩ : ∃ L : List Loc, L = [] := ⟨_, rfl⟩
  rw [← eH, ← eL] at hI ⊢
  have hl : lv_has ls 2 [(0, .ref o), (1, .int a1)] := hl
  unfold X7_when at hf
  have hJ14 : ∀ (τ : Mm) (y0 : Int32) (H : Heap) (locs : List Loc) (ls : Array Slot), X7_when_J14 τ a1 y0 = some (r, τ') → IT D cI cZ o s H locs τ → lv_has ls 2 [(0, .ref o), (1, .int a1)] → W p l e ({ frames := 696, cells := 0, slots := 0, locals := 20142 } : Room) s m args below meth c H locs 0 0 Q (F0 m 14 ls [.int y0, .ref o]) := by
    intro τ y0 H locs ls hf hI hl
    unfold X7_when_J14 at hf
    obtain ⟨t14, et14, hf⟩ := obd hf
    refine tput hx hb hts hown hE hI 0 (by decide) q2100 rfl (tyX7_ok 0 (by decide)) rfl rfl rfl et14 dX7_when_14 (fun H locs hI => ?_)
    refine lv_aload_n hx hb dX7_when_17 rfl (lv_at hl 0 rfl) ?_
    refine tget hx hb hts hown hE hI 0 (by decide) q2100 rfl dX7_when_18 ?_
    refine lv_if_le (tgt := 28) hx hb dX7_when_21 (by decide) (fun hc => ?_) (fun hc => ?_)
    · replace hf := ipos hc hf
      refine lv_aload_n hx hb dX7_when_28 rfl (lv_at hl 0 rfl) ?_
      refine lv_iload_n hx hb dX7_when_29 rfl (lv_at hl 1 rfl) ?_
      obtain ⟨x30, ex30, hf⟩ := obd hf
      refine tcallI (rest := []) hx hb hts hown hE hz hI hml hl.1 (mX7_whenOf t14 a1 _ _ ex30) (cwX7_whenOf hts ⟨Nat.le_of_ble_eq_true rfl, Nat.le_of_ble_eq_true rfl⟩) ⟨Nat.le_of_ble_eq_true rfl, Nat.le_of_ble_eq_true rfl⟩ rfl rfl (lv_room (Nat.le_of_ble_eq_true rfl)) dX7_when_30 (fun H locs hI => ?_)
      have hf := Prod.mk.inj (Option.some.inj hf)
      rw [hf.1]
      exact hret H locs 33 ls (hf.2 ▸ hI) dX7_when_33
    · replace hf := ineg hc hf
      refine lv_iconst (v := (0 : Int32)) hx hb dX7_when_24 (by decide) ?_
      refine lv_goto (tgt := 33) hx hb dX7_when_25 (by decide) ?_
      have hf := Prod.mk.inj (Option.some.inj hf)
      rw [hf.1]
      exact hret H locs 33 ls (hf.2 ▸ hI) dX7_when_33
  refine lv_aload_n hx hb dX7_when_0 rfl (lv_at hl 0 rfl) ?_
  refine lv_aload_n hx hb dX7_when_1 rfl (lv_at hl 0 rfl) ?_
  refine lv_iload_n hx hb dX7_when_2 rfl (lv_at hl 1 rfl) ?_
  obtain ⟨x3, ex3, hf⟩ := obd hf
  refine tcallI (rest := [.ref o]) hx hb hts hown hE hz hI hml hl.1 (mX7_isDeed τ a1 _ ex3) (cwX7_isDeed hts ⟨Nat.le_of_ble_eq_true rfl, Nat.le_of_ble_eq_true rfl⟩) ⟨Nat.le_of_ble_eq_true rfl, Nat.le_of_ble_eq_true rfl⟩ rfl rfl (lv_room (Nat.le_of_ble_eq_true rfl)) dX7_when_3 (fun H locs hI => ?_)
  refine lv_if_ne (tgt := 13) hx hb dX7_when_6 (by decide) (fun hc => ?_) (fun hc => ?_)
  · replace hf := ineg hc hf
    refine lv_iconst (v := (0 : Int32)) hx hb dX7_when_13 (by decide) ?_
    exact hJ14 τ (0 : Int32) H locs ls hf hI  (lv_sub hl [0, 1] rfl)
  · replace hf := ipos hc hf
    refine lv_iconst (v := (1 : Int32)) hx hb dX7_when_9 (by decide) ?_
    refine lv_goto (tgt := 14) hx hb dX7_when_10 (by decide) ?_
    exact hJ14 τ (1 : Int32) H locs ls hf hI  (lv_sub hl [0, 1] rfl)


def X7_due_J14 (τ : Mm) (a1 : Int32) (y0 : Int32) : Option (Int32 × Mm) :=
  (some (mup τ 10 0 y0)).bind fun t14 =>
  if (t14 10 0) ≤ (0 : Int32) then
    (X7_firstBy t14 a1 (11 : Int32) (0 : Int32)).bind fun x33 =>
    some (x33.1, x33.2)
  else
    some ((0 : Int32), t14)
def X7_due (τ : Mm) (a1 : Int32) : Option (Int32 × Mm) :=
  (X7_isDeed τ a1).bind fun x3 =>
  if x3 = (0 : Int32) then
    X7_due_J14 τ a1 (1 : Int32)
  else
    X7_due_J14 τ a1 (0 : Int32)
set_option maxHeartbeats 4000000 in
theorem mX7_due (τ : Mm) (a1 : Int32) (r : Int32) (τ' : Mm) (hf : X7_due τ a1 = some (r, τ')) : TMi yX7_due cX7_due 2 (some .int) 695 20121 (fun aK => [.int a1]) r τ τ' := by
  refine TMi.of (by decide) rfl (fun _ _ => Nat.le_of_ble_eq_true rfl) ?_
  intro p l e s m args below meth c D cI cZ o z aK aV Q ls hz hx hb hml hown hts hE hret hI hl
  obtain ⟨H, eH⟩ : ∃ H, H = s.heap := ⟨_, rfl⟩
  obtain ⟨locs, eL⟩ : ∃ L : List Loc, L = [] := ⟨_, rfl⟩
  rw [← eH, ← eL] at hI ⊢
  have hl : lv_has ls 2 [(0, .ref o), (1, .int a1)] := hl
  unfold X7_due at hf
  have hJ14 : ∀ (τ : Mm) (y0 : Int32) (H : Heap) (locs : List Loc) (ls : Array Slot), X7_due_J14 τ a1 y0 = some (r, τ') → IT D cI cZ o s H locs τ → lv_has ls 2 [(0, .ref o), (1, .int a1)] → W p l e ({ frames := 695, cells := 0, slots := 0, locals := 20121 } : Room) s m args below meth c H locs 0 0 Q (F0 m 14 ls [.int y0, .ref o]) := by
    intro τ y0 H locs ls hf hI hl
    unfold X7_due_J14 at hf
    obtain ⟨t14, et14, hf⟩ := obd hf
    refine tput hx hb hts hown hE hI 0 (by decide) q2100 rfl (tyX7_ok 0 (by decide)) rfl rfl rfl et14 dX7_due_14 (fun H locs hI => ?_)
    refine lv_aload_n hx hb dX7_due_17 rfl (lv_at hl 0 rfl) ?_
    refine tget hx hb hts hown hE hI 0 (by decide) q2100 rfl dX7_due_18 ?_
    refine lv_if_le (tgt := 28) hx hb dX7_due_21 (by decide) (fun hc => ?_) (fun hc => ?_)
    · replace hf := ipos hc hf
      refine lv_aload_n hx hb dX7_due_28 rfl (lv_at hl 0 rfl) ?_
      refine lv_iload_n hx hb dX7_due_29 rfl (lv_at hl 1 rfl) ?_
      refine lv_bipush (v := (11 : Int32)) hx hb dX7_due_30 (by decide) ?_
      refine lv_iconst (v := (0 : Int32)) hx hb dX7_due_32 (by decide) ?_
      obtain ⟨x33, ex33, hf⟩ := obd hf
      refine tcallI (rest := []) hx hb hts hown hE hz hI hml hl.1 (mX7_firstBy t14 a1 (11 : Int32) (0 : Int32) _ _ ex33) (cwX7_firstBy hts ⟨Nat.le_of_ble_eq_true rfl, Nat.le_of_ble_eq_true rfl⟩) ⟨Nat.le_of_ble_eq_true rfl, Nat.le_of_ble_eq_true rfl⟩ rfl rfl (lv_room (Nat.le_of_ble_eq_true rfl)) dX7_due_33 (fun H locs hI => ?_)
      have hf := Prod.mk.inj (Option.some.inj hf)
      rw [hf.1]
      exact hret H locs 36 ls (hf.2 ▸ hI) dX7_due_36
    · replace hf := ineg hc hf
      refine lv_iconst (v := (0 : Int32)) hx hb dX7_due_24 (by decide) ?_
      refine lv_goto (tgt := 36) hx hb dX7_due_25 (by decide) ?_
      have hf := Prod.mk.inj (Option.some.inj hf)
      rw [hf.1]
      exact hret H locs 36 ls (hf.2 ▸ hI) dX7_due_36
  refine lv_aload_n hx hb dX7_due_0 rfl (lv_at hl 0 rfl) ?_
  refine lv_aload_n hx hb dX7_due_1 rfl (lv_at hl 0 rfl) ?_
  refine lv_iload_n hx hb dX7_due_2 rfl (lv_at hl 1 rfl) ?_
  obtain ⟨x3, ex3, hf⟩ := obd hf
  refine tcallI (rest := [.ref o]) hx hb hts hown hE hz hI hml hl.1 (mX7_isDeed τ a1 _ ex3) (cwX7_isDeed hts ⟨Nat.le_of_ble_eq_true rfl, Nat.le_of_ble_eq_true rfl⟩) ⟨Nat.le_of_ble_eq_true rfl, Nat.le_of_ble_eq_true rfl⟩ rfl rfl (lv_room (Nat.le_of_ble_eq_true rfl)) dX7_due_3 (fun H locs hI => ?_)
  refine lv_if_ne (tgt := 13) hx hb dX7_due_6 (by decide) (fun hc => ?_) (fun hc => ?_)
  · replace hf := ineg hc hf
    refine lv_iconst (v := (0 : Int32)) hx hb dX7_due_13 (by decide) ?_
    exact hJ14 τ (0 : Int32) H locs ls hf hI  (lv_sub hl [0, 1] rfl)
  · replace hf := ipos hc hf
    refine lv_iconst (v := (1 : Int32)) hx hb dX7_due_9 (by decide) ?_
    refine lv_goto (tgt := 14) hx hb dX7_due_10 (by decide) ?_
    exact hJ14 τ (1 : Int32) H locs ls hf hI  (lv_sub hl [0, 1] rfl)


def X7_brokenOnes_L4 (τ : Mm) (w4 : Int32 × Int32) : Option ((Int32 × Int32) ⊕ (Int32)) :=
  if (τ 0 3) ≤ w4.2 then
    some (.inr w4.1)
  else
    (ld 781 (τ 0) (((15 : Int32) + ((2 : Int32) * w4.2)) + (1 : Int32))).bind fun x27 =>
    (some (w4.1 ||| (x27 <<< (w4.2 &&& (31 : Int32))))).bind fun v31 =>
    (some (w4.2 + (1 : Int32))).bind fun v32 =>
    some (.inl (v31, v32))
def X7_brokenOnes (τ : Mm) : Option (Int32) :=
  (loopO (X7_brokenOnes_L4 τ) FU ((0 : Int32), (0 : Int32))).bind fun e4 =>
  some e4
set_option maxHeartbeats 4000000 in
theorem mX7_brokenOnes (τ : Mm) (r : Int32) (hf : X7_brokenOnes τ = some r) : TMi yX7_brokenOnes cX7_brokenOnes 3 (some .int) 1 40 (fun aK => []) r τ τ := by
  refine TMi.of (by decide) rfl (fun _ _ => Nat.le_of_ble_eq_true rfl) ?_
  intro p l e s m args below meth c D cI cZ o z aK aV Q ls hz hx hb hml hown hts hE hret hI hl
  obtain ⟨H, eH⟩ : ∃ H, H = s.heap := ⟨_, rfl⟩
  obtain ⟨locs, eL⟩ : ∃ L : List Loc, L = [] := ⟨_, rfl⟩
  rw [← eH, ← eL] at hI ⊢
  have hl : lv_has ls 3 [(0, .ref o)] := hl
  unfold X7_brokenOnes at hf
  refine lv_iconst (v := (0 : Int32)) hx hb dX7_brokenOnes_0 (by decide) ?_
  refine lv_istore_n (lv' := [(1, .int (0 : Int32)), (0, .ref o)]) hx hb dX7_brokenOnes_1 rfl hl (by decide) rfl (fun ls hl => ?_)
  refine lv_iconst (v := (0 : Int32)) hx hb dX7_brokenOnes_2 (by decide) ?_
  refine lv_istore_n (lv' := [(2, .int (0 : Int32)), (1, .int (0 : Int32)), (0, .ref o)]) hx hb dX7_brokenOnes_3 rfl hl (by decide) rfl (fun ls hl => ?_)
  obtain ⟨e4, he4, hf⟩ := obd hf
  refine loopO_W (Wat := fun w4 => ∀ (H : Heap) (locs : List Loc) (ls : Array Slot), IT D cI cZ o s H locs τ → lv_has ls 3 [(0, .ref o), (1, .int w4.1), (2, .int w4.2)] → W p l e ({ frames := 1, cells := 0, slots := 0, locals := 40 } : Room) s m args below meth c H locs 0 0 Q (F0 m 4 ls [])) (Wex := fun ex_ => ∀ (H : Heap) (locs : List Loc) (ls : Array Slot), IT D cI cZ o s H locs τ → lv_has ls 3 [(1, .int ex_)] → W p l e ({ frames := 1, cells := 0, slots := 0, locals := 40 } : Room) s m args below meth c H locs 0 0 Q (F0 m 38 ls [])) (fun w4 o4 hf hk hq => ?_) FU _ e4 he4 ?_ H locs ls hI (lv_sub hl [2, 1, 0] rfl)
  · intro H locs ls hI hl
    unfold X7_brokenOnes_L4 at hf
    refine lv_iload_n hx hb dX7_brokenOnes_4 rfl (lv_at hl 2 rfl) ?_
    refine lv_aload_n hx hb dX7_brokenOnes_5 rfl (lv_at hl 0 rfl) ?_
    refine tget hx hb hts hown hE hI 1 (by decide) q2101 rfl dX7_brokenOnes_6 ?_
    refine lv_iconst (v := (3 : Int32)) hx hb dX7_brokenOnes_9 (by decide) ?_
    refine taldc hx hb hE hI 1 781 3 rfl (by decide) (by decide) dX7_brokenOnes_10 ?_
    refine lv_icmp_ge (tgt := 38) hx hb dX7_brokenOnes_11 (by decide) (fun hc => ?_) (fun hc => ?_)
    · replace hf := ipos hc hf
      exact hq _ (Option.some.inj hf).symm H locs ls hI (lv_sub hl [1] rfl)
    · replace hf := ineg hc hf
      refine lv_iload_n hx hb dX7_brokenOnes_14 rfl (lv_at hl 1 rfl) ?_
      refine lv_aload_n hx hb dX7_brokenOnes_15 rfl (lv_at hl 0 rfl) ?_
      refine tget hx hb hts hown hE hI 1 (by decide) q2101 rfl dX7_brokenOnes_16 ?_
      refine lv_bipush (v := (15 : Int32)) hx hb dX7_brokenOnes_19 (by decide) ?_
      refine lv_iconst (v := (2 : Int32)) hx hb dX7_brokenOnes_21 (by decide) ?_
      refine lv_iload_n hx hb dX7_brokenOnes_22 rfl (lv_at hl 2 rfl) ?_
      refine lv_imul hx hb dX7_brokenOnes_23 ?_
      refine lv_iadd hx hb dX7_brokenOnes_24 ?_
      refine lv_iconst (v := (1 : Int32)) hx hb dX7_brokenOnes_25 (by decide) ?_
      refine lv_iadd hx hb dX7_brokenOnes_26 ?_
      obtain ⟨x27, ex27, hf⟩ := obd hf
      refine tald hx hb hE hI 1 781 rfl ex27 dX7_brokenOnes_27 ?_
      refine lv_iload_n hx hb dX7_brokenOnes_28 rfl (lv_at hl 2 rfl) ?_
      refine lv_ishl hx hb dX7_brokenOnes_29 ?_
      refine lv_ior hx hb dX7_brokenOnes_30 ?_
      obtain ⟨v31, ev31, hf⟩ := obd hf
      refine nmI ev31 ?_
      refine lv_istore_n (lv' := [(1, .int v31), (0, .ref o), (2, .int w4.2)]) hx hb dX7_brokenOnes_31 rfl hl (by decide) rfl (fun ls hl => ?_)
      obtain ⟨v32, ev32, hf⟩ := obd hf
      refine lv_iinc (v := v32) (lv' := [(2, .int v32), (1, .int v31), (0, .ref o)]) hx hb dX7_brokenOnes_32 hl (k := 2) rfl (iiE ev32 (by decide)) (by decide) rfl (fun ls hl => ?_)
      refine lv_goto (tgt := 4) hx hb dX7_brokenOnes_35 (by decide) ?_
      exact hk _ (Option.some.inj hf).symm H locs ls hI (lv_sub hl [2, 1, 0] rfl)
  · skip
    intro H locs ls hI hl
    refine lv_iload_n hx hb dX7_brokenOnes_38 rfl (lv_at hl 0 rfl) ?_
    have hf := Option.some.inj hf
    rw [hf]
    exact hret H locs 39 ls hI dX7_brokenOnes_39
theorem cwX7_brokenOnes {R : Room} {s : State} {args : Array Value} {fr lo : Nat} (hts : ∀ w ∈ lw_all, w.before args s = true) (hR : fr + 1 ≤ R.frames ∧ 8 + (3 + 11) + lo ≤ R.locals) : CallW R s args RX7 RX7 350 yX7_brokenOnes cX7_brokenOnes 3 (some .int) (ws_ yX7_brokenOnes cX7_brokenOnes 3 (some .int)) ({ frames := fr, cells := 0, slots := 0, locals := lo }) 0 0 0 :=
  cwV 0 hts (lw_V q2544 q2546 qs117 q143 q2547) rfl rfl rfl (by decide +kernel) hR

def X7_ruin_L40 (τ : Mm) (c1 : Int32) (c3 : Int32) (c4 : Int32) (w40 : Int32 × Int32) : Option ((Int32 × Int32) ⊕ (Int32)) :=
  if w40.2 < (0 : Int32) then
    some (.inr w40.1)
  else
    (X7_isOf c4 w40.2).bind fun x49 =>
    if x49 = (0 : Int32) then
      (some (w40.2 + (-1 : Int32))).bind fun v66 =>
      some (.inl (w40.1, v66))
    else
      if c1 = (0 : Int32) then
        (some (w40.2 + (-1 : Int32))).bind fun v66_8 =>
        some (.inl (c3, v66_8))
      else
        (some (w40.2 + (-1 : Int32))).bind fun v66_9 =>
        some (.inl (w40.2, v66_9))
def X7_ruin_L13 (c1 : Int32) (w13 : Mm × Int32 × Int32) : Option ((Mm × Int32 × Int32) ⊕ (Mm × Int32)) :=
  if (80 : Int32) < w13.2.2 then
    some (.inr (w13.1, w13.2.1))
  else
    if w13.2.1 = (-1 : Int32) then
      (X7_brokenOnes w13.1).bind fun x25 =>
      (some ((w13.1 0 3) - (1 : Int32))).bind fun v38 =>
      (loopO (X7_ruin_L40 w13.1 c1 w13.2.2 x25) FU (w13.2.1, v38)).bind fun e40 =>
      (X7_passes w13.1 (0 : Int32)).bind fun x74 =>
      (some (w13.2.2 + (1 : Int32))).bind fun v79 =>
      some (.inl (x74.2, e40, v79))
    else
      some (.inr (w13.1, w13.2.1))
def X7_ruin (τ : Mm) (a1 : Int32) : Option (Int32 × Mm) :=
  (some (mup τ 10 0 (0 : Int32))).bind fun t2 =>
  (X7_putsAside t2).bind fun t6 =>
  (loopO (X7_ruin_L13 a1) FU (t6, (-1 : Int32), (0 : Int32))).bind fun e13 =>
  (X7_comesBack e13.1).bind fun t86 =>
  some (e13.2, t86)
set_option maxHeartbeats 4000000 in
theorem mX7_ruin (τ : Mm) (a1 : Int32) (r : Int32) (τ' : Mm) (hf : X7_ruin τ a1 = some (r, τ')) : TMi yX7_ruin cX7_ruin 6 (some .int) 694 20095 (fun aK => [.int a1]) r τ τ' := by
  refine TMi.of (by decide) rfl (fun _ _ => Nat.le_of_ble_eq_true rfl) ?_
  intro p l e s m args below meth c D cI cZ o z aK aV Q ls hz hx hb hml hown hts hE hret hI hl
  obtain ⟨H, eH⟩ : ∃ H, H = s.heap := ⟨_, rfl⟩
  obtain ⟨locs, eL⟩ : ∃ L : List Loc, L = [] := ⟨_, rfl⟩
  rw [← eH, ← eL] at hI ⊢
  have hl : lv_has ls 6 [(0, .ref o), (1, .int a1)] := hl
  unfold X7_ruin at hf
  refine lv_aload_n hx hb dX7_ruin_0 rfl (lv_at hl 0 rfl) ?_
  refine lv_iconst (v := (0 : Int32)) hx hb dX7_ruin_1 (by decide) ?_
  obtain ⟨t2, et2, hf⟩ := obd hf
  refine tput hx hb hts hown hE hI 0 (by decide) q2100 rfl (tyX7_ok 0 (by decide)) rfl rfl rfl et2 dX7_ruin_2 (fun H locs hI => ?_)
  refine lv_aload_n hx hb dX7_ruin_5 rfl (lv_at hl 0 rfl) ?_
  obtain ⟨t6, et6, hf⟩ := obd hf
  refine tcallV (rest := []) hx hb hts hown hE hz hI hml hl.1 (mX7_putsAside t2 _ et6) (cwX7_putsAside hts ⟨Nat.le_of_ble_eq_true rfl, Nat.le_of_ble_eq_true rfl⟩) ⟨Nat.le_of_ble_eq_true rfl, Nat.le_of_ble_eq_true rfl⟩ rfl rfl (lv_room (Nat.le_of_ble_eq_true rfl)) dX7_ruin_6 (fun H locs hI => ?_)
  refine lv_iconst (v := (-1 : Int32)) hx hb dX7_ruin_9 (by decide) ?_
  refine lv_istore_n (lv' := [(2, .int (-1 : Int32)), (0, .ref o), (1, .int a1)]) hx hb dX7_ruin_10 rfl hl (by decide) rfl (fun ls hl => ?_)
  refine lv_iconst (v := (0 : Int32)) hx hb dX7_ruin_11 (by decide) ?_
  refine lv_istore_n (lv' := [(3, .int (0 : Int32)), (2, .int (-1 : Int32)), (0, .ref o), (1, .int a1)]) hx hb dX7_ruin_12 rfl hl (by decide) rfl (fun ls hl => ?_)
  obtain ⟨e13, he13, hf⟩ := obd hf
  have hs13 : ∀ (c1 : Int32), ∀ (w13 : Mm × Int32 × Int32) (o13 : (Mm × Int32 × Int32) ⊕ (Mm × Int32)), X7_ruin_L13 c1 w13 = some o13 → (∀ wx_, o13 = .inl wx_ → ∀ (H : Heap) (locs : List Loc) (ls : Array Slot), IT D cI cZ o s H locs wx_.1 → lv_has ls 6 [(0, .ref o), (1, .int c1), (2, .int wx_.2.1), (3, .int wx_.2.2)] → W p l e ({ frames := 694, cells := 0, slots := 0, locals := 20095 } : Room) s m args below meth c H locs 0 0 Q (F0 m 13 ls [])) → (∀ ex_, o13 = .inr ex_ → ∀ (H : Heap) (locs : List Loc) (ls : Array Slot), IT D cI cZ o s H locs ex_.1 → lv_has ls 6 [(0, .ref o), (2, .int ex_.2)] → W p l e ({ frames := 694, cells := 0, slots := 0, locals := 20095 } : Room) s m args below meth c H locs 0 0 Q (F0 m 85 ls [])) → ∀ (H : Heap) (locs : List Loc) (ls : Array Slot), IT D cI cZ o s H locs w13.1 → lv_has ls 6 [(0, .ref o), (1, .int c1), (2, .int w13.2.1), (3, .int w13.2.2)] → W p l e ({ frames := 694, cells := 0, slots := 0, locals := 20095 } : Room) s m args below meth c H locs 0 0 Q (F0 m 13 ls []) := by
    intro c1 w13 o13 hf hk hq H locs ls hI hl
    unfold X7_ruin_L13 at hf
    refine lv_iload_n hx hb dX7_ruin_13 rfl (lv_at hl 3 rfl) ?_
    refine lv_bipush (v := (80 : Int32)) hx hb dX7_ruin_14 (by decide) ?_
    refine lv_icmp_gt (tgt := 85) hx hb dX7_ruin_16 (by decide) (fun hc => ?_) (fun hc => ?_)
    · replace hf := ipos hc hf
      exact hq _ (Option.some.inj hf).symm H locs ls hI (lv_sub hl [0, 2] rfl)
    · replace hf := ineg hc hf
      refine lv_iload_n hx hb dX7_ruin_19 rfl (lv_at hl 2 rfl) ?_
      refine lv_iconst (v := (-1 : Int32)) hx hb dX7_ruin_20 (by decide) ?_
      refine lv_icmp_ne (tgt := 85) hx hb dX7_ruin_21 (by decide) (fun hc => ?_) (fun hc => ?_)
      · replace hf := ineg hc hf
        exact hq _ (Option.some.inj hf).symm H locs ls hI (lv_sub hl [0, 2] rfl)
      · replace hf := ipos hc hf
        refine lv_aload_n hx hb dX7_ruin_24 rfl (lv_at hl 0 rfl) ?_
        obtain ⟨x25, ex25, hf⟩ := obd hf
        refine tcallI (rest := []) hx hb hts hown hE hz hI hml hl.1 (mX7_brokenOnes w13.1 _ ex25) (cwX7_brokenOnes hts ⟨Nat.le_of_ble_eq_true rfl, Nat.le_of_ble_eq_true rfl⟩) ⟨Nat.le_of_ble_eq_true rfl, Nat.le_of_ble_eq_true rfl⟩ rfl rfl (lv_room (Nat.le_of_ble_eq_true rfl)) dX7_ruin_25 (fun H locs hI => ?_)
        refine lv_istore (lv' := [(4, .int x25), (0, .ref o), (1, .int c1), (2, .int w13.2.1), (3, .int w13.2.2)]) hx hb dX7_ruin_28 hl (by decide) rfl (fun ls hl => ?_)
        refine lv_aload_n hx hb dX7_ruin_30 rfl (lv_at hl 1 rfl) ?_
        refine tget hx hb hts hown hE hI 1 (by decide) q2101 rfl dX7_ruin_31 ?_
        refine lv_iconst (v := (3 : Int32)) hx hb dX7_ruin_34 (by decide) ?_
        refine taldc hx hb hE hI 1 781 3 rfl (by decide) (by decide) dX7_ruin_35 ?_
        refine lv_iconst (v := (1 : Int32)) hx hb dX7_ruin_36 (by decide) ?_
        refine lv_isub hx hb dX7_ruin_37 ?_
        obtain ⟨v38, ev38, hf⟩ := obd hf
        refine nmI ev38 ?_
        refine lv_istore (lv' := [(5, .int v38), (4, .int x25), (0, .ref o), (1, .int c1), (2, .int w13.2.1), (3, .int w13.2.2)]) hx hb dX7_ruin_38 hl (by decide) rfl (fun ls hl => ?_)
        obtain ⟨e40, he40, hf⟩ := obd hf
        have hs40 : ∀ (τ : Mm) (c1 : Int32) (c3 : Int32) (c4 : Int32), ∀ (w40 : Int32 × Int32) (o40 : (Int32 × Int32) ⊕ (Int32)), X7_ruin_L40 τ c1 c3 c4 w40 = some o40 → (∀ wx_, o40 = .inl wx_ → ∀ (H : Heap) (locs : List Loc) (ls : Array Slot), IT D cI cZ o s H locs τ → lv_has ls 6 [(0, .ref o), (1, .int c1), (2, .int wx_.1), (3, .int c3), (4, .int c4), (5, .int wx_.2)] → W p l e ({ frames := 694, cells := 0, slots := 0, locals := 20095 } : Room) s m args below meth c H locs 0 0 Q (F0 m 40 ls [])) → (∀ ex_, o40 = .inr ex_ → ∀ (H : Heap) (locs : List Loc) (ls : Array Slot), IT D cI cZ o s H locs τ → lv_has ls 6 [(0, .ref o), (1, .int c1), (2, .int ex_), (3, .int c3)] → W p l e ({ frames := 694, cells := 0, slots := 0, locals := 20095 } : Room) s m args below meth c H locs 0 0 Q (F0 m 72 ls [])) → ∀ (H : Heap) (locs : List Loc) (ls : Array Slot), IT D cI cZ o s H locs τ → lv_has ls 6 [(0, .ref o), (1, .int c1), (2, .int w40.1), (3, .int c3), (4, .int c4), (5, .int w40.2)] → W p l e ({ frames := 694, cells := 0, slots := 0, locals := 20095 } : Room) s m args below meth c H locs 0 0 Q (F0 m 40 ls []) := by
          intro τ c1 c3 c4 w40 o40 hf hk hq H locs ls hI hl
          unfold X7_ruin_L40 at hf
          refine lv_iload hx hb dX7_ruin_40 (lv_at hl 5 rfl) ?_
          refine lv_if_lt (tgt := 72) hx hb dX7_ruin_42 (by decide) (fun hc => ?_) (fun hc => ?_)
          · replace hf := ipos hc hf
            exact hq _ (Option.some.inj hf).symm H locs ls hI (lv_sub hl [0, 1, 2, 3] rfl)
          · replace hf := ineg hc hf
            refine lv_iload hx hb dX7_ruin_45 (lv_at hl 4 rfl) ?_
            refine lv_iload hx hb dX7_ruin_47 (lv_at hl 5 rfl) ?_
            obtain ⟨x49, ex49, hf⟩ := obd hf
            refine tcallS (rest := []) hx hb hts hown hml hl.1 (mX7_isOf c4 w40.2 _ ex49) (cwX7_isOf hts ⟨Nat.le_of_ble_eq_true rfl, Nat.le_of_ble_eq_true rfl⟩) ⟨Nat.le_of_ble_eq_true rfl, Nat.le_of_ble_eq_true rfl⟩ rfl rfl (lv_room (Nat.le_of_ble_eq_true rfl)) dX7_ruin_49 ?_
            refine lv_if_eq (tgt := 66) hx hb dX7_ruin_52 (by decide) (fun hc => ?_) (fun hc => ?_)
            · replace hf := ipos hc hf
              obtain ⟨v66, ev66, hf⟩ := obd hf
              refine lv_iinc (v := v66) (lv' := [(5, .int v66), (0, .ref o), (1, .int c1), (2, .int w40.1), (3, .int c3), (4, .int c4)]) hx hb dX7_ruin_66 hl (k := 5) rfl (iiE ev66 (by decide)) (by decide) rfl (fun ls hl => ?_)
              refine lv_goto (tgt := 40) hx hb dX7_ruin_69 (by decide) ?_
              exact hk _ (Option.some.inj hf).symm H locs ls hI (lv_sub hl [1, 2, 3, 4, 5, 0] rfl)
            · replace hf := ineg hc hf
              refine lv_iload_n hx hb dX7_ruin_55 rfl (lv_at hl 1 rfl) ?_
              refine lv_if_eq (tgt := 64) hx hb dX7_ruin_56 (by decide) (fun hc => ?_) (fun hc => ?_)
              · replace hf := ipos hc hf
                refine lv_iload_n hx hb dX7_ruin_64 rfl (lv_at hl 3 rfl) ?_
                refine lv_istore_n (lv' := [(2, .int c3), (0, .ref o), (1, .int c1), (3, .int c3), (4, .int c4), (5, .int w40.2)]) hx hb dX7_ruin_65 rfl hl (by decide) rfl (fun ls hl => ?_)
                obtain ⟨v66_8, ev66_8, hf⟩ := obd hf
                refine lv_iinc (v := v66_8) (lv' := [(5, .int v66_8), (2, .int c3), (0, .ref o), (1, .int c1), (3, .int c3), (4, .int c4)]) hx hb dX7_ruin_66 hl (k := 5) rfl (iiE ev66_8 (by decide)) (by decide) rfl (fun ls hl => ?_)
                refine lv_goto (tgt := 40) hx hb dX7_ruin_69 (by decide) ?_
                exact hk _ (Option.some.inj hf).symm H locs ls hI (lv_sub hl [2, 3, 1, 4, 5, 0] rfl)
              · replace hf := ineg hc hf
                refine lv_iload hx hb dX7_ruin_59 (lv_at hl 5 rfl) ?_
                refine lv_goto (tgt := 65) hx hb dX7_ruin_61 (by decide) ?_
                refine lv_istore_n (lv' := [(2, .int w40.2), (0, .ref o), (1, .int c1), (3, .int c3), (4, .int c4), (5, .int w40.2)]) hx hb dX7_ruin_65 rfl hl (by decide) rfl (fun ls hl => ?_)
                obtain ⟨v66_9, ev66_9, hf⟩ := obd hf
                refine lv_iinc (v := v66_9) (lv' := [(5, .int v66_9), (2, .int w40.2), (0, .ref o), (1, .int c1), (3, .int c3), (4, .int c4)]) hx hb dX7_ruin_66 hl (k := 5) rfl (iiE ev66_9 (by decide)) (by decide) rfl (fun ls hl => ?_)
                refine lv_goto (tgt := 40) hx hb dX7_ruin_69 (by decide) ?_
                exact hk _ (Option.some.inj hf).symm H locs ls hI (lv_sub hl [2, 3, 1, 4, 5, 0] rfl)
        refine loopO_W (Wat := fun w40 => ∀ (H : Heap) (locs : List Loc) (ls : Array Slot), IT D cI cZ o s H locs w13.1 → lv_has ls 6 [(0, .ref o), (1, .int c1), (2, .int w40.1), (3, .int w13.2.2), (4, .int x25), (5, .int w40.2)] → W p l e ({ frames := 694, cells := 0, slots := 0, locals := 20095 } : Room) s m args below meth c H locs 0 0 Q (F0 m 40 ls [])) (Wex := fun ex_ => ∀ (H : Heap) (locs : List Loc) (ls : Array Slot), IT D cI cZ o s H locs w13.1 → lv_has ls 6 [(0, .ref o), (1, .int c1), (2, .int ex_), (3, .int w13.2.2)] → W p l e ({ frames := 694, cells := 0, slots := 0, locals := 20095 } : Room) s m args below meth c H locs 0 0 Q (F0 m 72 ls [])) (hs40 w13.1 c1 w13.2.2 x25) FU _ e40 he40 ?_ H locs ls hI (lv_sub hl [2, 3, 4, 5, 1, 0] rfl)
        · skip
          intro H locs ls hI hl
          refine lv_aload_n hx hb dX7_ruin_72 rfl (lv_at hl 0 rfl) ?_
          refine lv_iconst (v := (0 : Int32)) hx hb dX7_ruin_73 (by decide) ?_
          obtain ⟨x74, ex74, hf⟩ := obd hf
          refine tcallI (rest := []) hx hb hts hown hE hz hI hml hl.1 (mX7_passes w13.1 (0 : Int32) _ _ ex74) (cwX7_passes hts ⟨Nat.le_of_ble_eq_true rfl, Nat.le_of_ble_eq_true rfl⟩) ⟨Nat.le_of_ble_eq_true rfl, Nat.le_of_ble_eq_true rfl⟩ rfl rfl (lv_room (Nat.le_of_ble_eq_true rfl)) dX7_ruin_74 (fun H locs hI => ?_)
          refine lv_istore (lv' := [(5, .int x74.1), (0, .ref o), (1, .int c1), (2, .int e40), (3, .int w13.2.2)]) hx hb dX7_ruin_77 hl (by decide) rfl (fun ls hl => ?_)
          obtain ⟨v79, ev79, hf⟩ := obd hf
          refine lv_iinc (v := v79) (lv' := [(3, .int v79), (5, .int x74.1), (0, .ref o), (1, .int c1), (2, .int e40)]) hx hb dX7_ruin_79 hl (k := 4) rfl (iiE ev79 (by decide)) (by decide) rfl (fun ls hl => ?_)
          refine lv_goto (tgt := 13) hx hb dX7_ruin_82 (by decide) ?_
          exact hk _ (Option.some.inj hf).symm H locs ls hI (lv_sub hl [2, 3, 4, 0] rfl)
  refine loopO_W (Wat := fun w13 => ∀ (H : Heap) (locs : List Loc) (ls : Array Slot), IT D cI cZ o s H locs w13.1 → lv_has ls 6 [(0, .ref o), (1, .int a1), (2, .int w13.2.1), (3, .int w13.2.2)] → W p l e ({ frames := 694, cells := 0, slots := 0, locals := 20095 } : Room) s m args below meth c H locs 0 0 Q (F0 m 13 ls [])) (Wex := fun ex_ => ∀ (H : Heap) (locs : List Loc) (ls : Array Slot), IT D cI cZ o s H locs ex_.1 → lv_has ls 6 [(0, .ref o), (2, .int ex_.2)] → W p l e ({ frames := 694, cells := 0, slots := 0, locals := 20095 } : Room) s m args below meth c H locs 0 0 Q (F0 m 85 ls [])) (hs13 a1) FU _ e13 he13 ?_ H locs ls hI (lv_sub hl [2, 3, 1, 0] rfl)
  · skip
    intro H locs ls hI hl
    refine lv_aload_n hx hb dX7_ruin_85 rfl (lv_at hl 0 rfl) ?_
    obtain ⟨t86, et86, hf⟩ := obd hf
    refine tcallV (rest := []) hx hb hts hown hE hz hI hml hl.1 (mX7_comesBack e13.1 _ et86) (cwX7_comesBack hts ⟨Nat.le_of_ble_eq_true rfl, Nat.le_of_ble_eq_true rfl⟩) ⟨Nat.le_of_ble_eq_true rfl, Nat.le_of_ble_eq_true rfl⟩ rfl rfl (lv_room (Nat.le_of_ble_eq_true rfl)) dX7_ruin_86 (fun H locs hI => ?_)
    refine lv_iload_n hx hb dX7_ruin_89 rfl (lv_at hl 1 rfl) ?_
    have hf := Prod.mk.inj (Option.some.inj hf)
    rw [hf.1]
    exact hret H locs 90 ls (hf.2 ▸ hI) dX7_ruin_90


def X7_wealth_J28 (τ : Mm) (a1 : Int32) (a2 : Int32) (y0 : Int32) : Option (Int32 × Mm) :=
  (some (mup τ 10 0 y0)).bind fun t28 =>
  if (t28 10 0) ≤ (0 : Int32) then
    (X7_putsAside t28).bind fun t41 =>
    (X7_goes t41 a2 (0 : Int32)).bind fun x47 =>
    (X7_coins x47.2 a1).bind fun x53 =>
    (X7_comesBack x47.2).bind fun t59 =>
    some (x53, t59)
  else
    some ((0 : Int32), t28)
def X7_wealth (τ : Mm) (a1 : Int32) (a2 : Int32) : Option (Int32 × Mm) :=
  (X7_isParty τ a1).bind fun x3 =>
  if x3 = (0 : Int32) then
    X7_wealth_J28 τ a1 a2 (1 : Int32)
  else
    (X7_isIn a2 (0 : Int32) (80 : Int32)).bind fun x17 =>
    if x17 = (0 : Int32) then
      X7_wealth_J28 τ a1 a2 (2 : Int32)
    else
      X7_wealth_J28 τ a1 a2 (0 : Int32)
set_option maxHeartbeats 4000000 in
theorem mX7_wealth (τ : Mm) (a1 : Int32) (a2 : Int32) (r : Int32) (τ' : Mm) (hf : X7_wealth τ a1 a2 = some (r, τ')) : TMi yX7_wealth cX7_wealth 5 (some .int) 695 20119 (fun aK => [.int a1, .int a2]) r τ τ' := by
  refine TMi.of (by decide) rfl (fun _ _ => Nat.le_of_ble_eq_true rfl) ?_
  intro p l e s m args below meth c D cI cZ o z aK aV Q ls hz hx hb hml hown hts hE hret hI hl
  obtain ⟨H, eH⟩ : ∃ H, H = s.heap := ⟨_, rfl⟩
  obtain ⟨locs, eL⟩ : ∃ L : List Loc, L = [] := ⟨_, rfl⟩
  rw [← eH, ← eL] at hI ⊢
  have hl : lv_has ls 5 [(0, .ref o), (1, .int a1), (2, .int a2)] := hl
  unfold X7_wealth at hf
  have hJ28 : ∀ (τ : Mm) (y0 : Int32) (H : Heap) (locs : List Loc) (ls : Array Slot), X7_wealth_J28 τ a1 a2 y0 = some (r, τ') → IT D cI cZ o s H locs τ → lv_has ls 5 [(0, .ref o), (1, .int a1), (2, .int a2)] → W p l e ({ frames := 695, cells := 0, slots := 0, locals := 20119 } : Room) s m args below meth c H locs 0 0 Q (F0 m 28 ls [.int y0, .ref o]) := by
    intro τ y0 H locs ls hf hI hl
    unfold X7_wealth_J28 at hf
    obtain ⟨t28, et28, hf⟩ := obd hf
    refine tput hx hb hts hown hE hI 0 (by decide) q2100 rfl (tyX7_ok 0 (by decide)) rfl rfl rfl et28 dX7_wealth_28 (fun H locs hI => ?_)
    refine lv_aload_n hx hb dX7_wealth_31 rfl (lv_at hl 0 rfl) ?_
    refine tget hx hb hts hown hE hI 0 (by decide) q2100 rfl dX7_wealth_32 ?_
    refine lv_if_le (tgt := 40) hx hb dX7_wealth_35 (by decide) (fun hc => ?_) (fun hc => ?_)
    · replace hf := ipos hc hf
      refine lv_aload_n hx hb dX7_wealth_40 rfl (lv_at hl 0 rfl) ?_
      obtain ⟨t41, et41, hf⟩ := obd hf
      refine tcallV (rest := []) hx hb hts hown hE hz hI hml hl.1 (mX7_putsAside t28 _ et41) (cwX7_putsAside hts ⟨Nat.le_of_ble_eq_true rfl, Nat.le_of_ble_eq_true rfl⟩) ⟨Nat.le_of_ble_eq_true rfl, Nat.le_of_ble_eq_true rfl⟩ rfl rfl (lv_room (Nat.le_of_ble_eq_true rfl)) dX7_wealth_41 (fun H locs hI => ?_)
      refine lv_aload_n hx hb dX7_wealth_44 rfl (lv_at hl 0 rfl) ?_
      refine lv_iload_n hx hb dX7_wealth_45 rfl (lv_at hl 2 rfl) ?_
      refine lv_iconst (v := (0 : Int32)) hx hb dX7_wealth_46 (by decide) ?_
      obtain ⟨x47, ex47, hf⟩ := obd hf
      refine tcallI (rest := []) hx hb hts hown hE hz hI hml hl.1 (mX7_goes t41 a2 (0 : Int32) _ _ ex47) (cwX7_goes hts ⟨Nat.le_of_ble_eq_true rfl, Nat.le_of_ble_eq_true rfl⟩) ⟨Nat.le_of_ble_eq_true rfl, Nat.le_of_ble_eq_true rfl⟩ rfl rfl (lv_room (Nat.le_of_ble_eq_true rfl)) dX7_wealth_47 (fun H locs hI => ?_)
      refine lv_istore_n (lv' := [(3, .int x47.1), (0, .ref o), (1, .int a1), (2, .int a2)]) hx hb dX7_wealth_50 rfl hl (by decide) rfl (fun ls hl => ?_)
      refine lv_aload_n hx hb dX7_wealth_51 rfl (lv_at hl 1 rfl) ?_
      refine lv_iload_n hx hb dX7_wealth_52 rfl (lv_at hl 2 rfl) ?_
      obtain ⟨x53, ex53, hf⟩ := obd hf
      refine tcallI (rest := []) hx hb hts hown hE hz hI hml hl.1 (mX7_coins x47.2 a1 _ ex53) (cwX7_coins hts ⟨Nat.le_of_ble_eq_true rfl, Nat.le_of_ble_eq_true rfl⟩) ⟨Nat.le_of_ble_eq_true rfl, Nat.le_of_ble_eq_true rfl⟩ rfl rfl (lv_room (Nat.le_of_ble_eq_true rfl)) dX7_wealth_53 (fun H locs hI => ?_)
      refine lv_istore (lv' := [(4, .int x53), (3, .int x47.1), (0, .ref o), (1, .int a1), (2, .int a2)]) hx hb dX7_wealth_56 hl (by decide) rfl (fun ls hl => ?_)
      refine lv_aload_n hx hb dX7_wealth_58 rfl (lv_at hl 2 rfl) ?_
      obtain ⟨t59, et59, hf⟩ := obd hf
      refine tcallV (rest := []) hx hb hts hown hE hz hI hml hl.1 (mX7_comesBack x47.2 _ et59) (cwX7_comesBack hts ⟨Nat.le_of_ble_eq_true rfl, Nat.le_of_ble_eq_true rfl⟩) ⟨Nat.le_of_ble_eq_true rfl, Nat.le_of_ble_eq_true rfl⟩ rfl rfl (lv_room (Nat.le_of_ble_eq_true rfl)) dX7_wealth_59 (fun H locs hI => ?_)
      refine lv_iload hx hb dX7_wealth_62 (lv_at hl 0 rfl) ?_
      have hf := Prod.mk.inj (Option.some.inj hf)
      rw [hf.1]
      exact hret H locs 64 ls (hf.2 ▸ hI) dX7_wealth_64
    · replace hf := ineg hc hf
      refine lv_iconst (v := (0 : Int32)) hx hb dX7_wealth_38 (by decide) ?_
      have hf := Prod.mk.inj (Option.some.inj hf)
      rw [hf.1]
      exact hret H locs 39 ls (hf.2 ▸ hI) dX7_wealth_39
  refine lv_aload_n hx hb dX7_wealth_0 rfl (lv_at hl 0 rfl) ?_
  refine lv_aload_n hx hb dX7_wealth_1 rfl (lv_at hl 0 rfl) ?_
  refine lv_iload_n hx hb dX7_wealth_2 rfl (lv_at hl 1 rfl) ?_
  obtain ⟨x3, ex3, hf⟩ := obd hf
  refine tcallI (rest := [.ref o]) hx hb hts hown hE hz hI hml hl.1 (mX7_isParty τ a1 _ ex3) (cwX7_isParty hts ⟨Nat.le_of_ble_eq_true rfl, Nat.le_of_ble_eq_true rfl⟩) ⟨Nat.le_of_ble_eq_true rfl, Nat.le_of_ble_eq_true rfl⟩ rfl rfl (lv_room (Nat.le_of_ble_eq_true rfl)) dX7_wealth_3 (fun H locs hI => ?_)
  refine lv_if_ne (tgt := 13) hx hb dX7_wealth_6 (by decide) (fun hc => ?_) (fun hc => ?_)
  · replace hf := ineg hc hf
    refine lv_iload_n hx hb dX7_wealth_13 rfl (lv_at hl 2 rfl) ?_
    refine lv_iconst (v := (0 : Int32)) hx hb dX7_wealth_14 (by decide) ?_
    refine lv_bipush (v := (80 : Int32)) hx hb dX7_wealth_15 (by decide) ?_
    obtain ⟨x17, ex17, hf⟩ := obd hf
    refine tcallS (rest := [.ref o]) hx hb hts hown hml hl.1 (mX7_isIn a2 (0 : Int32) (80 : Int32) _ ex17) (cwX7_isIn hts ⟨Nat.le_of_ble_eq_true rfl, Nat.le_of_ble_eq_true rfl⟩) ⟨Nat.le_of_ble_eq_true rfl, Nat.le_of_ble_eq_true rfl⟩ rfl rfl (lv_room (Nat.le_of_ble_eq_true rfl)) dX7_wealth_17 ?_
    refine lv_if_ne (tgt := 27) hx hb dX7_wealth_20 (by decide) (fun hc => ?_) (fun hc => ?_)
    · replace hf := ineg hc hf
      refine lv_iconst (v := (0 : Int32)) hx hb dX7_wealth_27 (by decide) ?_
      exact hJ28 τ (0 : Int32) H locs ls hf hI  (lv_sub hl [0, 1, 2] rfl)
    · replace hf := ipos hc hf
      refine lv_iconst (v := (2 : Int32)) hx hb dX7_wealth_23 (by decide) ?_
      refine lv_goto (tgt := 28) hx hb dX7_wealth_24 (by decide) ?_
      exact hJ28 τ (2 : Int32) H locs ls hf hI  (lv_sub hl [0, 1, 2] rfl)
  · replace hf := ipos hc hf
    refine lv_iconst (v := (1 : Int32)) hx hb dX7_wealth_9 (by decide) ?_
    refine lv_goto (tgt := 28) hx hb dX7_wealth_10 (by decide) ?_
    exact hJ28 τ (1 : Int32) H locs ls hf hI  (lv_sub hl [0, 1, 2] rfl)


def X7_chainOf_L4 (τ : Mm) (w4 : Int32 × Int32) : Option ((Int32 × Int32) ⊕ (Int32)) :=
  if w4.2 = (-1 : Int32) then
    some (.inr w4.1)
  else
    (some (w4.1 ||| ((1 : Int32) <<< (w4.2 &&& (31 : Int32))))).bind fun v14 =>
    (X7_of τ w4.2 (5 : Int32)).bind fun x18 =>
    some (.inl (v14, x18))
def X7_chainOf (τ : Mm) (a1 : Int32) : Option (Int32) :=
  (loopO (X7_chainOf_L4 τ) FU ((0 : Int32), a1)).bind fun e4 =>
  some e4
set_option maxHeartbeats 4000000 in
theorem mX7_chainOf (τ : Mm) (a1 : Int32) (r : Int32) (hf : X7_chainOf τ a1 = some r) : TMi yX7_chainOf cX7_chainOf 4 (some .int) 2 62 (fun aK => [.int a1]) r τ τ := by
  refine TMi.of (by decide) rfl (fun _ _ => Nat.le_of_ble_eq_true rfl) ?_
  intro p l e s m args below meth c D cI cZ o z aK aV Q ls hz hx hb hml hown hts hE hret hI hl
  obtain ⟨H, eH⟩ : ∃ H, H = s.heap := ⟨_, rfl⟩
  obtain ⟨locs, eL⟩ : ∃ L : List Loc, L = [] := ⟨_, rfl⟩
  rw [← eH, ← eL] at hI ⊢
  have hl : lv_has ls 4 [(0, .ref o), (1, .int a1)] := hl
  unfold X7_chainOf at hf
  refine lv_iconst (v := (0 : Int32)) hx hb dX7_chainOf_0 (by decide) ?_
  refine lv_istore_n (lv' := [(2, .int (0 : Int32)), (0, .ref o), (1, .int a1)]) hx hb dX7_chainOf_1 rfl hl (by decide) rfl (fun ls hl => ?_)
  refine lv_iload_n hx hb dX7_chainOf_2 rfl (lv_at hl 2 rfl) ?_
  refine lv_istore_n (lv' := [(3, .int a1), (2, .int (0 : Int32)), (0, .ref o), (1, .int a1)]) hx hb dX7_chainOf_3 rfl hl (by decide) rfl (fun ls hl => ?_)
  obtain ⟨e4, he4, hf⟩ := obd hf
  refine loopO_W (Wat := fun w4 => ∀ (H : Heap) (locs : List Loc) (ls : Array Slot), IT D cI cZ o s H locs τ → lv_has ls 4 [(0, .ref o), (2, .int w4.1), (3, .int w4.2)] → W p l e ({ frames := 2, cells := 0, slots := 0, locals := 62 } : Room) s m args below meth c H locs 0 0 Q (F0 m 4 ls [])) (Wex := fun ex_ => ∀ (H : Heap) (locs : List Loc) (ls : Array Slot), IT D cI cZ o s H locs τ → lv_has ls 4 [(2, .int ex_)] → W p l e ({ frames := 2, cells := 0, slots := 0, locals := 62 } : Room) s m args below meth c H locs 0 0 Q (F0 m 25 ls [])) (fun w4 o4 hf hk hq => ?_) FU _ e4 he4 ?_ H locs ls hI (lv_sub hl [2, 1, 0] rfl)
  · intro H locs ls hI hl
    unfold X7_chainOf_L4 at hf
    refine lv_iload_n hx hb dX7_chainOf_4 rfl (lv_at hl 2 rfl) ?_
    refine lv_iconst (v := (-1 : Int32)) hx hb dX7_chainOf_5 (by decide) ?_
    refine lv_icmp_eq (tgt := 25) hx hb dX7_chainOf_6 (by decide) (fun hc => ?_) (fun hc => ?_)
    · replace hf := ipos hc hf
      exact hq _ (Option.some.inj hf).symm H locs ls hI (lv_sub hl [1] rfl)
    · replace hf := ineg hc hf
      refine lv_iload_n hx hb dX7_chainOf_9 rfl (lv_at hl 1 rfl) ?_
      refine lv_iconst (v := (1 : Int32)) hx hb dX7_chainOf_10 (by decide) ?_
      refine lv_iload_n hx hb dX7_chainOf_11 rfl (lv_at hl 2 rfl) ?_
      refine lv_ishl hx hb dX7_chainOf_12 ?_
      refine lv_ior hx hb dX7_chainOf_13 ?_
      obtain ⟨v14, ev14, hf⟩ := obd hf
      refine nmI ev14 ?_
      refine lv_istore_n (lv' := [(2, .int v14), (0, .ref o), (3, .int w4.2)]) hx hb dX7_chainOf_14 rfl hl (by decide) rfl (fun ls hl => ?_)
      refine lv_aload_n hx hb dX7_chainOf_15 rfl (lv_at hl 1 rfl) ?_
      refine lv_iload_n hx hb dX7_chainOf_16 rfl (lv_at hl 2 rfl) ?_
      refine lv_iconst (v := (5 : Int32)) hx hb dX7_chainOf_17 (by decide) ?_
      obtain ⟨x18, ex18, hf⟩ := obd hf
      refine tcallI (rest := []) hx hb hts hown hE hz hI hml hl.1 (mX7_of τ w4.2 (5 : Int32) _ ex18) (cwX7_of hts ⟨Nat.le_of_ble_eq_true rfl, Nat.le_of_ble_eq_true rfl⟩) ⟨Nat.le_of_ble_eq_true rfl, Nat.le_of_ble_eq_true rfl⟩ rfl rfl (lv_room (Nat.le_of_ble_eq_true rfl)) dX7_chainOf_18 (fun H locs hI => ?_)
      refine lv_istore_n (lv' := [(3, .int x18), (2, .int v14), (0, .ref o)]) hx hb dX7_chainOf_21 rfl hl (by decide) rfl (fun ls hl => ?_)
      refine lv_goto (tgt := 4) hx hb dX7_chainOf_22 (by decide) ?_
      exact hk _ (Option.some.inj hf).symm H locs ls hI (lv_sub hl [2, 1, 0] rfl)
  · skip
    intro H locs ls hI hl
    refine lv_iload_n hx hb dX7_chainOf_25 rfl (lv_at hl 0 rfl) ?_
    have hf := Option.some.inj hf
    rw [hf]
    exact hret H locs 26 ls hI dX7_chainOf_26
theorem cwX7_chainOf {R : Room} {s : State} {args : Array Value} {fr lo : Nat} (hts : ∀ w ∈ lw_all, w.before args s = true) (hR : fr + 1 ≤ R.frames ∧ 8 + (4 + 11) + lo ≤ R.locals) : CallW R s args RX7 RX7 353 yX7_chainOf cX7_chainOf 4 (some .int) (ws_ yX7_chainOf cX7_chainOf 4 (some .int)) ({ frames := fr, cells := 0, slots := 0, locals := lo }) 0 0 1 :=
  cwV 1 hts (lw_V q2556 q2558 qs118 q143 q2559) rfl rfl rfl (by decide +kernel) hR

def X7_chain_J14 (τ : Mm) (a1 : Int32) (y0 : Int32) : Option (Int32 × Mm) :=
  (some (mup τ 10 0 y0)).bind fun t14 =>
  if (t14 10 0) ≤ (0 : Int32) then
    (X7_chainOf t14 a1).bind fun x30 =>
    some (x30, t14)
  else
    some ((0 : Int32), t14)
def X7_chain (τ : Mm) (a1 : Int32) : Option (Int32 × Mm) :=
  (X7_isDeed τ a1).bind fun x3 =>
  if x3 = (0 : Int32) then
    X7_chain_J14 τ a1 (1 : Int32)
  else
    X7_chain_J14 τ a1 (0 : Int32)
set_option maxHeartbeats 4000000 in
theorem mX7_chain (τ : Mm) (a1 : Int32) (r : Int32) (τ' : Mm) (hf : X7_chain τ a1 = some (r, τ')) : TMi yX7_chain cX7_chain 2 (some .int) 3 85 (fun aK => [.int a1]) r τ τ' := by
  refine TMi.of (by decide) rfl (fun _ _ => Nat.le_of_ble_eq_true rfl) ?_
  intro p l e s m args below meth c D cI cZ o z aK aV Q ls hz hx hb hml hown hts hE hret hI hl
  obtain ⟨H, eH⟩ : ∃ H, H = s.heap := ⟨_, rfl⟩
  obtain ⟨locs, eL⟩ : ∃ L : List Loc, L = [] := ⟨_, rfl⟩
  rw [← eH, ← eL] at hI ⊢
  have hl : lv_has ls 2 [(0, .ref o), (1, .int a1)] := hl
  unfold X7_chain at hf
  have hJ14 : ∀ (τ : Mm) (y0 : Int32) (H : Heap) (locs : List Loc) (ls : Array Slot), X7_chain_J14 τ a1 y0 = some (r, τ') → IT D cI cZ o s H locs τ → lv_has ls 2 [(0, .ref o), (1, .int a1)] → W p l e ({ frames := 3, cells := 0, slots := 0, locals := 85 } : Room) s m args below meth c H locs 0 0 Q (F0 m 14 ls [.int y0, .ref o]) := by
    intro τ y0 H locs ls hf hI hl
    unfold X7_chain_J14 at hf
    obtain ⟨t14, et14, hf⟩ := obd hf
    refine tput hx hb hts hown hE hI 0 (by decide) q2100 rfl (tyX7_ok 0 (by decide)) rfl rfl rfl et14 dX7_chain_14 (fun H locs hI => ?_)
    refine lv_aload_n hx hb dX7_chain_17 rfl (lv_at hl 0 rfl) ?_
    refine tget hx hb hts hown hE hI 0 (by decide) q2100 rfl dX7_chain_18 ?_
    refine lv_if_le (tgt := 28) hx hb dX7_chain_21 (by decide) (fun hc => ?_) (fun hc => ?_)
    · replace hf := ipos hc hf
      refine lv_aload_n hx hb dX7_chain_28 rfl (lv_at hl 0 rfl) ?_
      refine lv_iload_n hx hb dX7_chain_29 rfl (lv_at hl 1 rfl) ?_
      obtain ⟨x30, ex30, hf⟩ := obd hf
      refine tcallI (rest := []) hx hb hts hown hE hz hI hml hl.1 (mX7_chainOf t14 a1 _ ex30) (cwX7_chainOf hts ⟨Nat.le_of_ble_eq_true rfl, Nat.le_of_ble_eq_true rfl⟩) ⟨Nat.le_of_ble_eq_true rfl, Nat.le_of_ble_eq_true rfl⟩ rfl rfl (lv_room (Nat.le_of_ble_eq_true rfl)) dX7_chain_30 (fun H locs hI => ?_)
      have hf := Prod.mk.inj (Option.some.inj hf)
      rw [hf.1]
      exact hret H locs 33 ls (hf.2 ▸ hI) dX7_chain_33
    · replace hf := ineg hc hf
      refine lv_iconst (v := (0 : Int32)) hx hb dX7_chain_24 (by decide) ?_
      refine lv_goto (tgt := 33) hx hb dX7_chain_25 (by decide) ?_
      have hf := Prod.mk.inj (Option.some.inj hf)
      rw [hf.1]
      exact hret H locs 33 ls (hf.2 ▸ hI) dX7_chain_33
  refine lv_aload_n hx hb dX7_chain_0 rfl (lv_at hl 0 rfl) ?_
  refine lv_aload_n hx hb dX7_chain_1 rfl (lv_at hl 0 rfl) ?_
  refine lv_iload_n hx hb dX7_chain_2 rfl (lv_at hl 1 rfl) ?_
  obtain ⟨x3, ex3, hf⟩ := obd hf
  refine tcallI (rest := [.ref o]) hx hb hts hown hE hz hI hml hl.1 (mX7_isDeed τ a1 _ ex3) (cwX7_isDeed hts ⟨Nat.le_of_ble_eq_true rfl, Nat.le_of_ble_eq_true rfl⟩) ⟨Nat.le_of_ble_eq_true rfl, Nat.le_of_ble_eq_true rfl⟩ rfl rfl (lv_room (Nat.le_of_ble_eq_true rfl)) dX7_chain_3 (fun H locs hI => ?_)
  refine lv_if_ne (tgt := 13) hx hb dX7_chain_6 (by decide) (fun hc => ?_) (fun hc => ?_)
  · replace hf := ineg hc hf
    refine lv_iconst (v := (0 : Int32)) hx hb dX7_chain_13 (by decide) ?_
    exact hJ14 τ (0 : Int32) H locs ls hf hI  (lv_sub hl [0, 1] rfl)
  · replace hf := ipos hc hf
    refine lv_iconst (v := (1 : Int32)) hx hb dX7_chain_9 (by decide) ?_
    refine lv_goto (tgt := 14) hx hb dX7_chain_10 (by decide) ?_
    exact hJ14 τ (1 : Int32) H locs ls hf hI  (lv_sub hl [0, 1] rfl)


def X7_hangs_L30 (τ : Mm) (c1 : Int32) (w30 : Int32 × Int32) : Option ((Int32 × Int32) ⊕ (Int32)) :=
  if (τ 0 5) ≤ w30.2 then
    some (.inr w30.1)
  else
    if w30.2 = c1 then
      (some (w30.1 ||| (0 : Int32))).bind fun v66 =>
      (some (w30.2 + (1 : Int32))).bind fun v67 =>
      some (.inl (v66, v67))
    else
      (X7_chainOf τ w30.2).bind fun x48 =>
      (X7_isOf x48 c1).bind fun x52 =>
      if x52 = (0 : Int32) then
        (some (w30.1 ||| (0 : Int32))).bind fun v66_6 =>
        (some (w30.2 + (1 : Int32))).bind fun v67_7 =>
        some (.inl (v66_6, v67_7))
      else
        (some (w30.1 ||| ((1 : Int32) <<< (w30.2 &&& (31 : Int32))))).bind fun v66_8 =>
        (some (w30.2 + (1 : Int32))).bind fun v67_9 =>
        some (.inl (v66_8, v67_9))
def X7_hangs_J14 (τ : Mm) (a1 : Int32) (y0 : Int32) : Option (Int32 × Mm) :=
  (some (mup τ 10 0 y0)).bind fun t14 =>
  if (t14 10 0) ≤ (0 : Int32) then
    (loopO (X7_hangs_L30 t14 a1) FU ((0 : Int32), (0 : Int32))).bind fun e30 =>
    some (e30, t14)
  else
    some ((0 : Int32), t14)
def X7_hangs (τ : Mm) (a1 : Int32) : Option (Int32 × Mm) :=
  (X7_isDeed τ a1).bind fun x3 =>
  if x3 = (0 : Int32) then
    X7_hangs_J14 τ a1 (1 : Int32)
  else
    X7_hangs_J14 τ a1 (0 : Int32)
set_option maxHeartbeats 4000000 in
theorem mX7_hangs (τ : Mm) (a1 : Int32) (r : Int32) (τ' : Mm) (hf : X7_hangs τ a1 = some (r, τ')) : TMi yX7_hangs cX7_hangs 4 (some .int) 3 85 (fun aK => [.int a1]) r τ τ' := by
  refine TMi.of (by decide) rfl (fun _ _ => Nat.le_of_ble_eq_true rfl) ?_
  intro p l e s m args below meth c D cI cZ o z aK aV Q ls hz hx hb hml hown hts hE hret hI hl
  obtain ⟨H, eH⟩ : ∃ H, H = s.heap := ⟨_, rfl⟩
  obtain ⟨locs, eL⟩ : ∃ L : List Loc, L = [] := ⟨_, rfl⟩
  rw [← eH, ← eL] at hI ⊢
  have hl : lv_has ls 4 [(0, .ref o), (1, .int a1)] := hl
  unfold X7_hangs at hf
  have hJ14 : ∀ (τ : Mm) (y0 : Int32) (H : Heap) (locs : List Loc) (ls : Array Slot), X7_hangs_J14 τ a1 y0 = some (r, τ') → IT D cI cZ o s H locs τ → lv_has ls 4 [(0, .ref o), (1, .int a1)] → W p l e ({ frames := 3, cells := 0, slots := 0, locals := 85 } : Room) s m args below meth c H locs 0 0 Q (F0 m 14 ls [.int y0, .ref o]) := by
    intro τ y0 H locs ls hf hI hl
    unfold X7_hangs_J14 at hf
    obtain ⟨t14, et14, hf⟩ := obd hf
    refine tput hx hb hts hown hE hI 0 (by decide) q2100 rfl (tyX7_ok 0 (by decide)) rfl rfl rfl et14 dX7_hangs_14 (fun H locs hI => ?_)
    refine lv_aload_n hx hb dX7_hangs_17 rfl (lv_at hl 0 rfl) ?_
    refine tget hx hb hts hown hE hI 0 (by decide) q2100 rfl dX7_hangs_18 ?_
    refine lv_if_le (tgt := 26) hx hb dX7_hangs_21 (by decide) (fun hc => ?_) (fun hc => ?_)
    · replace hf := ipos hc hf
      refine lv_iconst (v := (0 : Int32)) hx hb dX7_hangs_26 (by decide) ?_
      refine lv_istore_n (lv' := [(2, .int (0 : Int32)), (0, .ref o), (1, .int a1)]) hx hb dX7_hangs_27 rfl hl (by decide) rfl (fun ls hl => ?_)
      refine lv_iconst (v := (0 : Int32)) hx hb dX7_hangs_28 (by decide) ?_
      refine lv_istore_n (lv' := [(3, .int (0 : Int32)), (2, .int (0 : Int32)), (0, .ref o), (1, .int a1)]) hx hb dX7_hangs_29 rfl hl (by decide) rfl (fun ls hl => ?_)
      obtain ⟨e30, he30, hf⟩ := obd hf
      have hs30 : ∀ (τ : Mm) (c1 : Int32), ∀ (w30 : Int32 × Int32) (o30 : (Int32 × Int32) ⊕ (Int32)), X7_hangs_L30 τ c1 w30 = some o30 → (∀ wx_, o30 = .inl wx_ → ∀ (H : Heap) (locs : List Loc) (ls : Array Slot), IT D cI cZ o s H locs τ → lv_has ls 4 [(0, .ref o), (1, .int c1), (2, .int wx_.1), (3, .int wx_.2)] → W p l e ({ frames := 3, cells := 0, slots := 0, locals := 85 } : Room) s m args below meth c H locs 0 0 Q (F0 m 30 ls [])) → (∀ ex_, o30 = .inr ex_ → ∀ (H : Heap) (locs : List Loc) (ls : Array Slot), IT D cI cZ o s H locs τ → lv_has ls 4 [(2, .int ex_)] → W p l e ({ frames := 3, cells := 0, slots := 0, locals := 85 } : Room) s m args below meth c H locs 0 0 Q (F0 m 73 ls [])) → ∀ (H : Heap) (locs : List Loc) (ls : Array Slot), IT D cI cZ o s H locs τ → lv_has ls 4 [(0, .ref o), (1, .int c1), (2, .int w30.1), (3, .int w30.2)] → W p l e ({ frames := 3, cells := 0, slots := 0, locals := 85 } : Room) s m args below meth c H locs 0 0 Q (F0 m 30 ls []) := by
        intro τ c1 w30 o30 hf hk hq H locs ls hI hl
        unfold X7_hangs_L30 at hf
        refine lv_iload_n hx hb dX7_hangs_30 rfl (lv_at hl 3 rfl) ?_
        refine lv_aload_n hx hb dX7_hangs_31 rfl (lv_at hl 0 rfl) ?_
        refine tget hx hb hts hown hE hI 1 (by decide) q2101 rfl dX7_hangs_32 ?_
        refine lv_iconst (v := (5 : Int32)) hx hb dX7_hangs_35 (by decide) ?_
        refine taldc hx hb hE hI 1 781 5 rfl (by decide) (by decide) dX7_hangs_36 ?_
        refine lv_icmp_ge (tgt := 73) hx hb dX7_hangs_37 (by decide) (fun hc => ?_) (fun hc => ?_)
        · replace hf := ipos hc hf
          exact hq _ (Option.some.inj hf).symm H locs ls hI (lv_sub hl [2] rfl)
        · replace hf := ineg hc hf
          refine lv_iload_n hx hb dX7_hangs_40 rfl (lv_at hl 2 rfl) ?_
          refine lv_iload_n hx hb dX7_hangs_41 rfl (lv_at hl 3 rfl) ?_
          refine lv_iload_n hx hb dX7_hangs_42 rfl (lv_at hl 1 rfl) ?_
          refine lv_icmp_eq (tgt := 64) hx hb dX7_hangs_43 (by decide) (fun hc => ?_) (fun hc => ?_)
          · replace hf := ipos hc hf
            refine lv_iconst (v := (0 : Int32)) hx hb dX7_hangs_64 (by decide) ?_
            refine lv_ior hx hb dX7_hangs_65 ?_
            obtain ⟨v66, ev66, hf⟩ := obd hf
            refine nmI ev66 ?_
            refine lv_istore_n (lv' := [(2, .int v66), (0, .ref o), (1, .int c1), (3, .int w30.2)]) hx hb dX7_hangs_66 rfl hl (by decide) rfl (fun ls hl => ?_)
            obtain ⟨v67, ev67, hf⟩ := obd hf
            refine lv_iinc (v := v67) (lv' := [(3, .int v67), (2, .int v66), (0, .ref o), (1, .int c1)]) hx hb dX7_hangs_67 hl (k := 3) rfl (iiE ev67 (by decide)) (by decide) rfl (fun ls hl => ?_)
            refine lv_goto (tgt := 30) hx hb dX7_hangs_70 (by decide) ?_
            exact hk _ (Option.some.inj hf).symm H locs ls hI (lv_sub hl [2, 3, 1, 0] rfl)
          · replace hf := ineg hc hf
            refine lv_aload_n hx hb dX7_hangs_46 rfl (lv_at hl 0 rfl) ?_
            refine lv_iload_n hx hb dX7_hangs_47 rfl (lv_at hl 3 rfl) ?_
            obtain ⟨x48, ex48, hf⟩ := obd hf
            refine tcallI (rest := [.int w30.1]) hx hb hts hown hE hz hI hml hl.1 (mX7_chainOf τ w30.2 _ ex48) (cwX7_chainOf hts ⟨Nat.le_of_ble_eq_true rfl, Nat.le_of_ble_eq_true rfl⟩) ⟨Nat.le_of_ble_eq_true rfl, Nat.le_of_ble_eq_true rfl⟩ rfl rfl (lv_room (Nat.le_of_ble_eq_true rfl)) dX7_hangs_48 (fun H locs hI => ?_)
            refine lv_iload_n hx hb dX7_hangs_51 rfl (lv_at hl 1 rfl) ?_
            obtain ⟨x52, ex52, hf⟩ := obd hf
            refine tcallS (rest := [.int w30.1]) hx hb hts hown hml hl.1 (mX7_isOf x48 c1 _ ex52) (cwX7_isOf hts ⟨Nat.le_of_ble_eq_true rfl, Nat.le_of_ble_eq_true rfl⟩) ⟨Nat.le_of_ble_eq_true rfl, Nat.le_of_ble_eq_true rfl⟩ rfl rfl (lv_room (Nat.le_of_ble_eq_true rfl)) dX7_hangs_52 ?_
            refine lv_if_eq (tgt := 64) hx hb dX7_hangs_55 (by decide) (fun hc => ?_) (fun hc => ?_)
            · replace hf := ipos hc hf
              refine lv_iconst (v := (0 : Int32)) hx hb dX7_hangs_64 (by decide) ?_
              refine lv_ior hx hb dX7_hangs_65 ?_
              obtain ⟨v66_6, ev66_6, hf⟩ := obd hf
              refine nmI ev66_6 ?_
              refine lv_istore_n (lv' := [(2, .int v66_6), (0, .ref o), (1, .int c1), (3, .int w30.2)]) hx hb dX7_hangs_66 rfl hl (by decide) rfl (fun ls hl => ?_)
              obtain ⟨v67_7, ev67_7, hf⟩ := obd hf
              refine lv_iinc (v := v67_7) (lv' := [(3, .int v67_7), (2, .int v66_6), (0, .ref o), (1, .int c1)]) hx hb dX7_hangs_67 hl (k := 3) rfl (iiE ev67_7 (by decide)) (by decide) rfl (fun ls hl => ?_)
              refine lv_goto (tgt := 30) hx hb dX7_hangs_70 (by decide) ?_
              exact hk _ (Option.some.inj hf).symm H locs ls hI (lv_sub hl [2, 3, 1, 0] rfl)
            · replace hf := ineg hc hf
              refine lv_iconst (v := (1 : Int32)) hx hb dX7_hangs_58 (by decide) ?_
              refine lv_iload_n hx hb dX7_hangs_59 rfl (lv_at hl 3 rfl) ?_
              refine lv_ishl hx hb dX7_hangs_60 ?_
              refine lv_goto (tgt := 65) hx hb dX7_hangs_61 (by decide) ?_
              refine lv_ior hx hb dX7_hangs_65 ?_
              obtain ⟨v66_8, ev66_8, hf⟩ := obd hf
              refine nmI ev66_8 ?_
              refine lv_istore_n (lv' := [(2, .int v66_8), (0, .ref o), (1, .int c1), (3, .int w30.2)]) hx hb dX7_hangs_66 rfl hl (by decide) rfl (fun ls hl => ?_)
              obtain ⟨v67_9, ev67_9, hf⟩ := obd hf
              refine lv_iinc (v := v67_9) (lv' := [(3, .int v67_9), (2, .int v66_8), (0, .ref o), (1, .int c1)]) hx hb dX7_hangs_67 hl (k := 3) rfl (iiE ev67_9 (by decide)) (by decide) rfl (fun ls hl => ?_)
              refine lv_goto (tgt := 30) hx hb dX7_hangs_70 (by decide) ?_
              exact hk _ (Option.some.inj hf).symm H locs ls hI (lv_sub hl [2, 3, 1, 0] rfl)
      refine loopO_W (Wat := fun w30 => ∀ (H : Heap) (locs : List Loc) (ls : Array Slot), IT D cI cZ o s H locs t14 → lv_has ls 4 [(0, .ref o), (1, .int a1), (2, .int w30.1), (3, .int w30.2)] → W p l e ({ frames := 3, cells := 0, slots := 0, locals := 85 } : Room) s m args below meth c H locs 0 0 Q (F0 m 30 ls [])) (Wex := fun ex_ => ∀ (H : Heap) (locs : List Loc) (ls : Array Slot), IT D cI cZ o s H locs t14 → lv_has ls 4 [(2, .int ex_)] → W p l e ({ frames := 3, cells := 0, slots := 0, locals := 85 } : Room) s m args below meth c H locs 0 0 Q (F0 m 73 ls [])) (hs30 t14 a1) FU _ e30 he30 ?_ H locs ls hI (lv_sub hl [2, 3, 1, 0] rfl)
      · skip
        intro H locs ls hI hl
        refine lv_iload_n hx hb dX7_hangs_73 rfl (lv_at hl 0 rfl) ?_
        have hf := Prod.mk.inj (Option.some.inj hf)
        rw [hf.1]
        exact hret H locs 74 ls (hf.2 ▸ hI) dX7_hangs_74
    · replace hf := ineg hc hf
      refine lv_iconst (v := (0 : Int32)) hx hb dX7_hangs_24 (by decide) ?_
      have hf := Prod.mk.inj (Option.some.inj hf)
      rw [hf.1]
      exact hret H locs 25 ls (hf.2 ▸ hI) dX7_hangs_25
  refine lv_aload_n hx hb dX7_hangs_0 rfl (lv_at hl 0 rfl) ?_
  refine lv_aload_n hx hb dX7_hangs_1 rfl (lv_at hl 0 rfl) ?_
  refine lv_iload_n hx hb dX7_hangs_2 rfl (lv_at hl 1 rfl) ?_
  obtain ⟨x3, ex3, hf⟩ := obd hf
  refine tcallI (rest := [.ref o]) hx hb hts hown hE hz hI hml hl.1 (mX7_isDeed τ a1 _ ex3) (cwX7_isDeed hts ⟨Nat.le_of_ble_eq_true rfl, Nat.le_of_ble_eq_true rfl⟩) ⟨Nat.le_of_ble_eq_true rfl, Nat.le_of_ble_eq_true rfl⟩ rfl rfl (lv_room (Nat.le_of_ble_eq_true rfl)) dX7_hangs_3 (fun H locs hI => ?_)
  refine lv_if_ne (tgt := 13) hx hb dX7_hangs_6 (by decide) (fun hc => ?_) (fun hc => ?_)
  · replace hf := ineg hc hf
    refine lv_iconst (v := (0 : Int32)) hx hb dX7_hangs_13 (by decide) ?_
    exact hJ14 τ (0 : Int32) H locs ls hf hI  (lv_sub hl [0, 1] rfl)
  · replace hf := ipos hc hf
    refine lv_iconst (v := (1 : Int32)) hx hb dX7_hangs_9 (by decide) ?_
    refine lv_goto (tgt := 14) hx hb dX7_hangs_10 (by decide) ?_
    exact hJ14 τ (1 : Int32) H locs ls hf hI  (lv_sub hl [0, 1] rfl)


def X7_late_L11 (w11 : Mm × Int32 × Int32 × Int32) : Option ((Mm × Int32 × Int32 × Int32) ⊕ (Mm × Int32)) :=
  if (w11.1 0 5) ≤ w11.2.2.2 then
    some (.inr (w11.1, w11.2.1))
  else
    (X7_whenOf w11.1 w11.2.2.2).bind fun x23 =>
    if w11.2.2.1 < x23.1 then
      (some (w11.2.2.2 + (1 : Int32))).bind fun v42 =>
      some (.inl (x23.2, w11.2.2.2, x23.1, v42))
    else
      (some (w11.2.2.2 + (1 : Int32))).bind fun v42_4 =>
      some (.inl (x23.2, w11.2.1, w11.2.2.1, v42_4))
def X7_late (τ : Mm) : Option (Int32 × Mm) :=
  (some (mup τ 10 0 (0 : Int32))).bind fun t2 =>
  (loopO (X7_late_L11) FU (t2, (-1 : Int32), (-1 : Int32), (0 : Int32))).bind fun e11 =>
  some (e11.2, e11.1)
set_option maxHeartbeats 4000000 in
theorem mX7_late (τ : Mm) (r : Int32) (τ' : Mm) (hf : X7_late τ = some (r, τ')) : TMi yX7_late cX7_late 5 (some .int) 696 20142 (fun aK => []) r τ τ' := by
  refine TMi.of (by decide) rfl (fun _ _ => Nat.le_of_ble_eq_true rfl) ?_
  intro p l e s m args below meth c D cI cZ o z aK aV Q ls hz hx hb hml hown hts hE hret hI hl
  obtain ⟨H, eH⟩ : ∃ H, H = s.heap := ⟨_, rfl⟩
  obtain ⟨locs, eL⟩ : ∃ L : List Loc, L = [] := ⟨_, rfl⟩
  rw [← eH, ← eL] at hI ⊢
  have hl : lv_has ls 5 [(0, .ref o)] := hl
  unfold X7_late at hf
  refine lv_aload_n hx hb dX7_late_0 rfl (lv_at hl 0 rfl) ?_
  refine lv_iconst (v := (0 : Int32)) hx hb dX7_late_1 (by decide) ?_
  obtain ⟨t2, et2, hf⟩ := obd hf
  refine tput hx hb hts hown hE hI 0 (by decide) q2100 rfl (tyX7_ok 0 (by decide)) rfl rfl rfl et2 dX7_late_2 (fun H locs hI => ?_)
  refine lv_iconst (v := (-1 : Int32)) hx hb dX7_late_5 (by decide) ?_
  refine lv_istore_n (lv' := [(1, .int (-1 : Int32)), (0, .ref o)]) hx hb dX7_late_6 rfl hl (by decide) rfl (fun ls hl => ?_)
  refine lv_iconst (v := (-1 : Int32)) hx hb dX7_late_7 (by decide) ?_
  refine lv_istore_n (lv' := [(2, .int (-1 : Int32)), (1, .int (-1 : Int32)), (0, .ref o)]) hx hb dX7_late_8 rfl hl (by decide) rfl (fun ls hl => ?_)
  refine lv_iconst (v := (0 : Int32)) hx hb dX7_late_9 (by decide) ?_
  refine lv_istore_n (lv' := [(3, .int (0 : Int32)), (2, .int (-1 : Int32)), (1, .int (-1 : Int32)), (0, .ref o)]) hx hb dX7_late_10 rfl hl (by decide) rfl (fun ls hl => ?_)
  obtain ⟨e11, he11, hf⟩ := obd hf
  refine loopO_W (Wat := fun w11 => ∀ (H : Heap) (locs : List Loc) (ls : Array Slot), IT D cI cZ o s H locs w11.1 → lv_has ls 5 [(0, .ref o), (1, .int w11.2.1), (2, .int w11.2.2.1), (3, .int w11.2.2.2)] → W p l e ({ frames := 696, cells := 0, slots := 0, locals := 20142 } : Room) s m args below meth c H locs 0 0 Q (F0 m 11 ls [])) (Wex := fun ex_ => ∀ (H : Heap) (locs : List Loc) (ls : Array Slot), IT D cI cZ o s H locs ex_.1 → lv_has ls 5 [(1, .int ex_.2)] → W p l e ({ frames := 696, cells := 0, slots := 0, locals := 20142 } : Room) s m args below meth c H locs 0 0 Q (F0 m 48 ls [])) (fun w11 o11 hf hk hq => ?_) FU _ e11 he11 ?_ H locs ls hI (lv_sub hl [3, 2, 1, 0] rfl)
  · intro H locs ls hI hl
    unfold X7_late_L11 at hf
    refine lv_iload_n hx hb dX7_late_11 rfl (lv_at hl 3 rfl) ?_
    refine lv_aload_n hx hb dX7_late_12 rfl (lv_at hl 0 rfl) ?_
    refine tget hx hb hts hown hE hI 1 (by decide) q2101 rfl dX7_late_13 ?_
    refine lv_iconst (v := (5 : Int32)) hx hb dX7_late_16 (by decide) ?_
    refine taldc hx hb hE hI 1 781 5 rfl (by decide) (by decide) dX7_late_17 ?_
    refine lv_icmp_ge (tgt := 48) hx hb dX7_late_18 (by decide) (fun hc => ?_) (fun hc => ?_)
    · replace hf := ipos hc hf
      exact hq _ (Option.some.inj hf).symm H locs ls hI (lv_sub hl [1] rfl)
    · replace hf := ineg hc hf
      refine lv_aload_n hx hb dX7_late_21 rfl (lv_at hl 0 rfl) ?_
      refine lv_iload_n hx hb dX7_late_22 rfl (lv_at hl 3 rfl) ?_
      obtain ⟨x23, ex23, hf⟩ := obd hf
      refine tcallI (rest := []) hx hb hts hown hE hz hI hml hl.1 (mX7_whenOf w11.1 w11.2.2.2 _ _ ex23) (cwX7_whenOf hts ⟨Nat.le_of_ble_eq_true rfl, Nat.le_of_ble_eq_true rfl⟩) ⟨Nat.le_of_ble_eq_true rfl, Nat.le_of_ble_eq_true rfl⟩ rfl rfl (lv_room (Nat.le_of_ble_eq_true rfl)) dX7_late_23 (fun H locs hI => ?_)
      refine lv_istore (lv' := [(4, .int x23.1), (0, .ref o), (1, .int w11.2.1), (2, .int w11.2.2.1), (3, .int w11.2.2.2)]) hx hb dX7_late_26 hl (by decide) rfl (fun ls hl => ?_)
      refine lv_iload hx hb dX7_late_28 (lv_at hl 0 rfl) ?_
      refine lv_iload_n hx hb dX7_late_30 rfl (lv_at hl 3 rfl) ?_
      refine lv_icmp_gt (tgt := 37) hx hb dX7_late_31 (by decide) (fun hc => ?_) (fun hc => ?_)
      · replace hf := ipos hc hf
        refine lv_iload hx hb dX7_late_37 (lv_at hl 0 rfl) ?_
        refine lv_istore_n (lv' := [(2, .int x23.1), (4, .int x23.1), (0, .ref o), (1, .int w11.2.1), (3, .int w11.2.2.2)]) hx hb dX7_late_39 rfl hl (by decide) rfl (fun ls hl => ?_)
        refine lv_iload_n hx hb dX7_late_40 rfl (lv_at hl 4 rfl) ?_
        refine lv_istore_n (lv' := [(1, .int w11.2.2.2), (2, .int x23.1), (4, .int x23.1), (0, .ref o), (3, .int w11.2.2.2)]) hx hb dX7_late_41 rfl hl (by decide) rfl (fun ls hl => ?_)
        obtain ⟨v42, ev42, hf⟩ := obd hf
        refine lv_iinc (v := v42) (lv' := [(3, .int v42), (1, .int w11.2.2.2), (2, .int x23.1), (4, .int x23.1), (0, .ref o)]) hx hb dX7_late_42 hl (k := 4) rfl (iiE ev42 (by decide)) (by decide) rfl (fun ls hl => ?_)
        refine lv_goto (tgt := 11) hx hb dX7_late_45 (by decide) ?_
        exact hk _ (Option.some.inj hf).symm H locs ls hI (lv_sub hl [4, 1, 2, 0] rfl)
      · replace hf := ineg hc hf
        refine lv_goto (tgt := 42) hx hb dX7_late_34 (by decide) ?_
        obtain ⟨v42_4, ev42_4, hf⟩ := obd hf
        refine lv_iinc (v := v42_4) (lv' := [(3, .int v42_4), (4, .int x23.1), (0, .ref o), (1, .int w11.2.1), (2, .int w11.2.2.1)]) hx hb dX7_late_42 hl (k := 4) rfl (iiE ev42_4 (by decide)) (by decide) rfl (fun ls hl => ?_)
        refine lv_goto (tgt := 11) hx hb dX7_late_45 (by decide) ?_
        exact hk _ (Option.some.inj hf).symm H locs ls hI (lv_sub hl [2, 3, 4, 0] rfl)
  · skip
    intro H locs ls hI hl
    refine lv_iload_n hx hb dX7_late_48 rfl (lv_at hl 0 rfl) ?_
    have hf := Prod.mk.inj (Option.some.inj hf)
    rw [hf.1]
    exact hret H locs 49 ls (hf.2 ▸ hI) dX7_late_49


def X7_net_J14 (τ : Mm) (a1 : Int32) (a2 : Int32) (y0 : Int32) : Option (Int32 × Mm) :=
  (some (mup τ 10 0 y0)).bind fun t14 =>
  if (t14 10 0) ≤ (0 : Int32) then
    (X7_netOf t14 a1 a2).bind fun x31 =>
    some (x31, t14)
  else
    some ((0 : Int32), t14)
def X7_net (τ : Mm) (a1 : Int32) (a2 : Int32) : Option (Int32 × Mm) :=
  (X7_isParty τ a1).bind fun x3 =>
  if x3 = (0 : Int32) then
    X7_net_J14 τ a1 a2 (1 : Int32)
  else
    X7_net_J14 τ a1 a2 (0 : Int32)
set_option maxHeartbeats 4000000 in
theorem mX7_net (τ : Mm) (a1 : Int32) (a2 : Int32) (r : Int32) (τ' : Mm) (hf : X7_net τ a1 a2 = some (r, τ')) : TMi yX7_net cX7_net 3 (some .int) 4 110 (fun aK => [.int a1, .int a2]) r τ τ' := by
  refine TMi.of (by decide) rfl (fun _ _ => Nat.le_of_ble_eq_true rfl) ?_
  intro p l e s m args below meth c D cI cZ o z aK aV Q ls hz hx hb hml hown hts hE hret hI hl
  obtain ⟨H, eH⟩ : ∃ H, H = s.heap := ⟨_, rfl⟩
  obtain ⟨locs, eL⟩ : ∃ L : List Loc, L = [] := ⟨_, rfl⟩
  rw [← eH, ← eL] at hI ⊢
  have hl : lv_has ls 3 [(0, .ref o), (1, .int a1), (2, .int a2)] := hl
  unfold X7_net at hf
  have hJ14 : ∀ (τ : Mm) (y0 : Int32) (H : Heap) (locs : List Loc) (ls : Array Slot), X7_net_J14 τ a1 a2 y0 = some (r, τ') → IT D cI cZ o s H locs τ → lv_has ls 3 [(0, .ref o), (1, .int a1), (2, .int a2)] → W p l e ({ frames := 4, cells := 0, slots := 0, locals := 110 } : Room) s m args below meth c H locs 0 0 Q (F0 m 14 ls [.int y0, .ref o]) := by
    intro τ y0 H locs ls hf hI hl
    unfold X7_net_J14 at hf
    obtain ⟨t14, et14, hf⟩ := obd hf
    refine tput hx hb hts hown hE hI 0 (by decide) q2100 rfl (tyX7_ok 0 (by decide)) rfl rfl rfl et14 dX7_net_14 (fun H locs hI => ?_)
    refine lv_aload_n hx hb dX7_net_17 rfl (lv_at hl 0 rfl) ?_
    refine tget hx hb hts hown hE hI 0 (by decide) q2100 rfl dX7_net_18 ?_
    refine lv_if_le (tgt := 28) hx hb dX7_net_21 (by decide) (fun hc => ?_) (fun hc => ?_)
    · replace hf := ipos hc hf
      refine lv_aload_n hx hb dX7_net_28 rfl (lv_at hl 0 rfl) ?_
      refine lv_iload_n hx hb dX7_net_29 rfl (lv_at hl 1 rfl) ?_
      refine lv_iload_n hx hb dX7_net_30 rfl (lv_at hl 2 rfl) ?_
      obtain ⟨x31, ex31, hf⟩ := obd hf
      refine tcallI (rest := []) hx hb hts hown hE hz hI hml hl.1 (mX7_netOf t14 a1 a2 _ ex31) (cwX7_netOf hts ⟨Nat.le_of_ble_eq_true rfl, Nat.le_of_ble_eq_true rfl⟩) ⟨Nat.le_of_ble_eq_true rfl, Nat.le_of_ble_eq_true rfl⟩ rfl rfl (lv_room (Nat.le_of_ble_eq_true rfl)) dX7_net_31 (fun H locs hI => ?_)
      have hf := Prod.mk.inj (Option.some.inj hf)
      rw [hf.1]
      exact hret H locs 34 ls (hf.2 ▸ hI) dX7_net_34
    · replace hf := ineg hc hf
      refine lv_iconst (v := (0 : Int32)) hx hb dX7_net_24 (by decide) ?_
      refine lv_goto (tgt := 34) hx hb dX7_net_25 (by decide) ?_
      have hf := Prod.mk.inj (Option.some.inj hf)
      rw [hf.1]
      exact hret H locs 34 ls (hf.2 ▸ hI) dX7_net_34
  refine lv_aload_n hx hb dX7_net_0 rfl (lv_at hl 0 rfl) ?_
  refine lv_aload_n hx hb dX7_net_1 rfl (lv_at hl 0 rfl) ?_
  refine lv_iload_n hx hb dX7_net_2 rfl (lv_at hl 1 rfl) ?_
  obtain ⟨x3, ex3, hf⟩ := obd hf
  refine tcallI (rest := [.ref o]) hx hb hts hown hE hz hI hml hl.1 (mX7_isParty τ a1 _ ex3) (cwX7_isParty hts ⟨Nat.le_of_ble_eq_true rfl, Nat.le_of_ble_eq_true rfl⟩) ⟨Nat.le_of_ble_eq_true rfl, Nat.le_of_ble_eq_true rfl⟩ rfl rfl (lv_room (Nat.le_of_ble_eq_true rfl)) dX7_net_3 (fun H locs hI => ?_)
  refine lv_if_ne (tgt := 13) hx hb dX7_net_6 (by decide) (fun hc => ?_) (fun hc => ?_)
  · replace hf := ineg hc hf
    refine lv_iconst (v := (0 : Int32)) hx hb dX7_net_13 (by decide) ?_
    exact hJ14 τ (0 : Int32) H locs ls hf hI  (lv_sub hl [0, 1, 2] rfl)
  · replace hf := ipos hc hf
    refine lv_iconst (v := (1 : Int32)) hx hb dX7_net_9 (by decide) ?_
    refine lv_goto (tgt := 14) hx hb dX7_net_10 (by decide) ?_
    exact hJ14 τ (1 : Int32) H locs ls hf hI  (lv_sub hl [0, 1, 2] rfl)

