def X7_broken (τ : Mm) : Option (Int32 × Mm) :=
  (some (mup τ 10 0 (0 : Int32))).bind fun t2 =>
  (X7_brokenOnes t2).bind fun x6 =>
  some (x6, t2)
set_option maxHeartbeats 4000000 in
theorem mX7_broken (τ : Mm) (r : Int32) (τ' : Mm) (hf : X7_broken τ = some (r, τ')) : TMi yX7_broken cX7_broken 1 (some .int) 2 62 (fun aK => []) r τ τ' := by
  refine TMi.of (by decide) rfl (fun _ _ => Nat.le_of_ble_eq_true rfl) ?_
  intro p l e s m args below meth c D cI cZ o z aK aV Q ls hz hx hb hml hown hts hE hret hI hl
  obtain ⟨H, eH⟩ : ∃ H, H = s.heap := ⟨_, rfl⟩
  obtain ⟨locs, eL⟩ : ∃ L : List Loc, L = [] := ⟨_, rfl⟩
  rw [← eH, ← eL] at hI ⊢
  have hl : lv_has ls 1 [(0, .ref o)] := hl
  unfold X7_broken at hf
  refine lv_aload_n hx hb dX7_broken_0 rfl (lv_at hl 0 rfl) ?_
  refine lv_iconst (v := (0 : Int32)) hx hb dX7_broken_1 (by decide) ?_
  obtain ⟨t2, et2, hf⟩ := obd hf
  refine tput hx hb hts hown hE hI 0 (by decide) q2100 rfl (tyX7_ok 0 (by decide)) rfl rfl rfl et2 dX7_broken_2 (fun H locs hI => ?_)
  refine lv_aload_n hx hb dX7_broken_5 rfl (lv_at hl 0 rfl) ?_
  obtain ⟨x6, ex6, hf⟩ := obd hf
  refine tcallI (rest := []) hx hb hts hown hE hz hI hml hl.1 (mX7_brokenOnes t2 _ ex6) (cwX7_brokenOnes hts ⟨Nat.le_of_ble_eq_true rfl, Nat.le_of_ble_eq_true rfl⟩) ⟨Nat.le_of_ble_eq_true rfl, Nat.le_of_ble_eq_true rfl⟩ rfl rfl (lv_room (Nat.le_of_ble_eq_true rfl)) dX7_broken_6 (fun H locs hI => ?_)
  have hf := Prod.mk.inj (Option.some.inj hf)
  rw [hf.1]
  exact hret H locs 9 ls (hf.2 ▸ hI) dX7_broken_9


def X7_ahead_J41 (τ : Mm) (a1 : Int32) (a2 : Int32) (a3 : Int32) (y0 : Int32) : Option (Int32 × Mm) :=
  (some (mup τ 10 0 y0)).bind fun t41 =>
  if (t41 10 0) ≤ (0 : Int32) then
    (X7_putsAside t41).bind fun t54 =>
    (X7_goes t54 a2 (0 : Int32)).bind fun x60 =>
    if a3 = (0 : Int32) then
      (X7_of x60.2 a1 (8 : Int32)).bind fun x88_11 =>
      (X7_comesBack x60.2).bind fun t94_13 =>
      some (x88_11, t94_13)
    else
      if a3 = (1 : Int32) then
        (X7_of x60.2 a1 (10 : Int32)).bind fun x88_8 =>
        (X7_comesBack x60.2).bind fun t94_10 =>
        some (x88_8, t94_10)
      else
        (X7_of x60.2 a1 (11 : Int32)).bind fun x88 =>
        (X7_comesBack x60.2).bind fun t94 =>
        some (x88, t94)
  else
    some ((0 : Int32), t41)
def X7_ahead (τ : Mm) (a1 : Int32) (a2 : Int32) (a3 : Int32) : Option (Int32 × Mm) :=
  (X7_isDeed τ a1).bind fun x3 =>
  if x3 = (0 : Int32) then
    X7_ahead_J41 τ a1 a2 a3 (1 : Int32)
  else
    (X7_isIn a2 (0 : Int32) (80 : Int32)).bind fun x17 =>
    if x17 = (0 : Int32) then
      X7_ahead_J41 τ a1 a2 a3 (2 : Int32)
    else
      (X7_isIn a3 (0 : Int32) (2 : Int32)).bind fun x30 =>
      if x30 = (0 : Int32) then
        X7_ahead_J41 τ a1 a2 a3 (3 : Int32)
      else
        X7_ahead_J41 τ a1 a2 a3 (0 : Int32)
set_option maxHeartbeats 4000000 in
theorem mX7_ahead (τ : Mm) (a1 : Int32) (a2 : Int32) (a3 : Int32) (r : Int32) (τ' : Mm) (hf : X7_ahead τ a1 a2 a3 = some (r, τ')) : TMi yX7_ahead cX7_ahead 6 (some .int) 695 20119 (fun aK => [.int a1, .int a2, .int a3]) r τ τ' := by
  refine TMi.of (by decide) rfl (fun _ _ => Nat.le_of_ble_eq_true rfl) ?_
  intro p l e s m args below meth c D cI cZ o z aK aV Q ls hz hx hb hml hown hts hE hret hI hl
  obtain ⟨H, eH⟩ : ∃ H, H = s.heap := ⟨_, rfl⟩
  obtain ⟨locs, eL⟩ : ∃ L : List Loc, L = [] := ⟨_, rfl⟩
  rw [← eH, ← eL] at hI ⊢
  have hl : lv_has ls 6 [(0, .ref o), (1, .int a1), (2, .int a2), (3, .int a3)] := hl
  unfold X7_ahead at hf
  have hJ41 : ∀ (τ : Mm) (y0 : Int32) (H : Heap) (locs : List Loc) (ls : Array Slot), X7_ahead_J41 τ a1 a2 a3 y0 = some (r, τ') → IT D cI cZ o s H locs τ → lv_has ls 6 [(0, .ref o), (1, .int a1), (2, .int a2), (3, .int a3)] → W p l e ({ frames := 695, cells := 0, slots := 0, locals := 20119 } : Room) s m args below meth c H locs 0 0 Q (F0 m 41 ls [.int y0, .ref o]) := by
    intro τ y0 H locs ls hf hI hl
    unfold X7_ahead_J41 at hf
    obtain ⟨t41, et41, hf⟩ := obd hf
    refine tput hx hb hts hown hE hI 0 (by decide) q2100 rfl (tyX7_ok 0 (by decide)) rfl rfl rfl et41 dX7_ahead_41 (fun H locs hI => ?_)
    refine lv_aload_n hx hb dX7_ahead_44 rfl (lv_at hl 0 rfl) ?_
    refine tget hx hb hts hown hE hI 0 (by decide) q2100 rfl dX7_ahead_45 ?_
    refine lv_if_le (tgt := 53) hx hb dX7_ahead_48 (by decide) (fun hc => ?_) (fun hc => ?_)
    · replace hf := ipos hc hf
      refine lv_aload_n hx hb dX7_ahead_53 rfl (lv_at hl 0 rfl) ?_
      obtain ⟨t54, et54, hf⟩ := obd hf
      refine tcallV (rest := []) hx hb hts hown hE hz hI hml hl.1 (mX7_putsAside t41 _ et54) (cwX7_putsAside hts ⟨Nat.le_of_ble_eq_true rfl, Nat.le_of_ble_eq_true rfl⟩) ⟨Nat.le_of_ble_eq_true rfl, Nat.le_of_ble_eq_true rfl⟩ rfl rfl (lv_room (Nat.le_of_ble_eq_true rfl)) dX7_ahead_54 (fun H locs hI => ?_)
      refine lv_aload_n hx hb dX7_ahead_57 rfl (lv_at hl 0 rfl) ?_
      refine lv_iload_n hx hb dX7_ahead_58 rfl (lv_at hl 2 rfl) ?_
      refine lv_iconst (v := (0 : Int32)) hx hb dX7_ahead_59 (by decide) ?_
      obtain ⟨x60, ex60, hf⟩ := obd hf
      refine tcallI (rest := []) hx hb hts hown hE hz hI hml hl.1 (mX7_goes t54 a2 (0 : Int32) _ _ ex60) (cwX7_goes hts ⟨Nat.le_of_ble_eq_true rfl, Nat.le_of_ble_eq_true rfl⟩) ⟨Nat.le_of_ble_eq_true rfl, Nat.le_of_ble_eq_true rfl⟩ rfl rfl (lv_room (Nat.le_of_ble_eq_true rfl)) dX7_ahead_60 (fun H locs hI => ?_)
      refine lv_istore (lv' := [(4, .int x60.1), (0, .ref o), (1, .int a1), (2, .int a2), (3, .int a3)]) hx hb dX7_ahead_63 hl (by decide) rfl (fun ls hl => ?_)
      refine lv_aload_n hx hb dX7_ahead_65 rfl (lv_at hl 1 rfl) ?_
      refine lv_iload_n hx hb dX7_ahead_66 rfl (lv_at hl 2 rfl) ?_
      refine lv_iload_n hx hb dX7_ahead_67 rfl (lv_at hl 4 rfl) ?_
      refine lv_if_ne (tgt := 76) hx hb dX7_ahead_68 (by decide) (fun hc => ?_) (fun hc => ?_)
      · replace hf := ineg hc hf
        refine lv_iload_n hx hb dX7_ahead_76 rfl (lv_at hl 4 rfl) ?_
        refine lv_iconst (v := (1 : Int32)) hx hb dX7_ahead_77 (by decide) ?_
        refine lv_icmp_ne (tgt := 86) hx hb dX7_ahead_78 (by decide) (fun hc => ?_) (fun hc => ?_)
        · replace hf := ineg hc hf
          refine lv_bipush (v := (11 : Int32)) hx hb dX7_ahead_86 (by decide) ?_
          obtain ⟨x88, ex88, hf⟩ := obd hf
          refine tcallI (rest := []) hx hb hts hown hE hz hI hml hl.1 (mX7_of x60.2 a1 (11 : Int32) _ ex88) (cwX7_of hts ⟨Nat.le_of_ble_eq_true rfl, Nat.le_of_ble_eq_true rfl⟩) ⟨Nat.le_of_ble_eq_true rfl, Nat.le_of_ble_eq_true rfl⟩ rfl rfl (lv_room (Nat.le_of_ble_eq_true rfl)) dX7_ahead_88 (fun H locs hI => ?_)
          refine lv_istore (lv' := [(5, .int x88), (4, .int x60.1), (0, .ref o), (1, .int a1), (2, .int a2), (3, .int a3)]) hx hb dX7_ahead_91 hl (by decide) rfl (fun ls hl => ?_)
          refine lv_aload_n hx hb dX7_ahead_93 rfl (lv_at hl 2 rfl) ?_
          obtain ⟨t94, et94, hf⟩ := obd hf
          refine tcallV (rest := []) hx hb hts hown hE hz hI hml hl.1 (mX7_comesBack x60.2 _ et94) (cwX7_comesBack hts ⟨Nat.le_of_ble_eq_true rfl, Nat.le_of_ble_eq_true rfl⟩) ⟨Nat.le_of_ble_eq_true rfl, Nat.le_of_ble_eq_true rfl⟩ rfl rfl (lv_room (Nat.le_of_ble_eq_true rfl)) dX7_ahead_94 (fun H locs hI => ?_)
          refine lv_iload hx hb dX7_ahead_97 (lv_at hl 0 rfl) ?_
          have hf := Prod.mk.inj (Option.some.inj hf)
          rw [hf.1]
          exact hret H locs 99 ls (hf.2 ▸ hI) dX7_ahead_99
        · replace hf := ipos hc hf
          refine lv_bipush (v := (10 : Int32)) hx hb dX7_ahead_81 (by decide) ?_
          refine lv_goto (tgt := 88) hx hb dX7_ahead_83 (by decide) ?_
          obtain ⟨x88_8, ex88_8, hf⟩ := obd hf
          refine tcallI (rest := []) hx hb hts hown hE hz hI hml hl.1 (mX7_of x60.2 a1 (10 : Int32) _ ex88_8) (cwX7_of hts ⟨Nat.le_of_ble_eq_true rfl, Nat.le_of_ble_eq_true rfl⟩) ⟨Nat.le_of_ble_eq_true rfl, Nat.le_of_ble_eq_true rfl⟩ rfl rfl (lv_room (Nat.le_of_ble_eq_true rfl)) dX7_ahead_88 (fun H locs hI => ?_)
          refine lv_istore (lv' := [(5, .int x88_8), (4, .int x60.1), (0, .ref o), (1, .int a1), (2, .int a2), (3, .int a3)]) hx hb dX7_ahead_91 hl (by decide) rfl (fun ls hl => ?_)
          refine lv_aload_n hx hb dX7_ahead_93 rfl (lv_at hl 2 rfl) ?_
          obtain ⟨t94_10, et94_10, hf⟩ := obd hf
          refine tcallV (rest := []) hx hb hts hown hE hz hI hml hl.1 (mX7_comesBack x60.2 _ et94_10) (cwX7_comesBack hts ⟨Nat.le_of_ble_eq_true rfl, Nat.le_of_ble_eq_true rfl⟩) ⟨Nat.le_of_ble_eq_true rfl, Nat.le_of_ble_eq_true rfl⟩ rfl rfl (lv_room (Nat.le_of_ble_eq_true rfl)) dX7_ahead_94 (fun H locs hI => ?_)
          refine lv_iload hx hb dX7_ahead_97 (lv_at hl 0 rfl) ?_
          have hf := Prod.mk.inj (Option.some.inj hf)
          rw [hf.1]
          exact hret H locs 99 ls (hf.2 ▸ hI) dX7_ahead_99
      · replace hf := ipos hc hf
        refine lv_bipush (v := (8 : Int32)) hx hb dX7_ahead_71 (by decide) ?_
        refine lv_goto (tgt := 88) hx hb dX7_ahead_73 (by decide) ?_
        obtain ⟨x88_11, ex88_11, hf⟩ := obd hf
        refine tcallI (rest := []) hx hb hts hown hE hz hI hml hl.1 (mX7_of x60.2 a1 (8 : Int32) _ ex88_11) (cwX7_of hts ⟨Nat.le_of_ble_eq_true rfl, Nat.le_of_ble_eq_true rfl⟩) ⟨Nat.le_of_ble_eq_true rfl, Nat.le_of_ble_eq_true rfl⟩ rfl rfl (lv_room (Nat.le_of_ble_eq_true rfl)) dX7_ahead_88 (fun H locs hI => ?_)
        refine lv_istore (lv' := [(5, .int x88_11), (4, .int x60.1), (0, .ref o), (1, .int a1), (2, .int a2), (3, .int a3)]) hx hb dX7_ahead_91 hl (by decide) rfl (fun ls hl => ?_)
        refine lv_aload_n hx hb dX7_ahead_93 rfl (lv_at hl 2 rfl) ?_
        obtain ⟨t94_13, et94_13, hf⟩ := obd hf
        refine tcallV (rest := []) hx hb hts hown hE hz hI hml hl.1 (mX7_comesBack x60.2 _ et94_13) (cwX7_comesBack hts ⟨Nat.le_of_ble_eq_true rfl, Nat.le_of_ble_eq_true rfl⟩) ⟨Nat.le_of_ble_eq_true rfl, Nat.le_of_ble_eq_true rfl⟩ rfl rfl (lv_room (Nat.le_of_ble_eq_true rfl)) dX7_ahead_94 (fun H locs hI => ?_)
        refine lv_iload hx hb dX7_ahead_97 (lv_at hl 0 rfl) ?_
        have hf := Prod.mk.inj (Option.some.inj hf)
        rw [hf.1]
        exact hret H locs 99 ls (hf.2 ▸ hI) dX7_ahead_99
    · replace hf := ineg hc hf
      refine lv_iconst (v := (0 : Int32)) hx hb dX7_ahead_51 (by decide) ?_
      have hf := Prod.mk.inj (Option.some.inj hf)
      rw [hf.1]
      exact hret H locs 52 ls (hf.2 ▸ hI) dX7_ahead_52
  refine lv_aload_n hx hb dX7_ahead_0 rfl (lv_at hl 0 rfl) ?_
  refine lv_aload_n hx hb dX7_ahead_1 rfl (lv_at hl 0 rfl) ?_
  refine lv_iload_n hx hb dX7_ahead_2 rfl (lv_at hl 1 rfl) ?_
  obtain ⟨x3, ex3, hf⟩ := obd hf
  refine tcallI (rest := [.ref o]) hx hb hts hown hE hz hI hml hl.1 (mX7_isDeed τ a1 _ ex3) (cwX7_isDeed hts ⟨Nat.le_of_ble_eq_true rfl, Nat.le_of_ble_eq_true rfl⟩) ⟨Nat.le_of_ble_eq_true rfl, Nat.le_of_ble_eq_true rfl⟩ rfl rfl (lv_room (Nat.le_of_ble_eq_true rfl)) dX7_ahead_3 (fun H locs hI => ?_)
  refine lv_if_ne (tgt := 13) hx hb dX7_ahead_6 (by decide) (fun hc => ?_) (fun hc => ?_)
  · replace hf := ineg hc hf
    refine lv_iload_n hx hb dX7_ahead_13 rfl (lv_at hl 2 rfl) ?_
    refine lv_iconst (v := (0 : Int32)) hx hb dX7_ahead_14 (by decide) ?_
    refine lv_bipush (v := (80 : Int32)) hx hb dX7_ahead_15 (by decide) ?_
    obtain ⟨x17, ex17, hf⟩ := obd hf
    refine tcallS (rest := [.ref o]) hx hb hts hown hml hl.1 (mX7_isIn a2 (0 : Int32) (80 : Int32) _ ex17) (cwX7_isIn hts ⟨Nat.le_of_ble_eq_true rfl, Nat.le_of_ble_eq_true rfl⟩) ⟨Nat.le_of_ble_eq_true rfl, Nat.le_of_ble_eq_true rfl⟩ rfl rfl (lv_room (Nat.le_of_ble_eq_true rfl)) dX7_ahead_17 ?_
    refine lv_if_ne (tgt := 27) hx hb dX7_ahead_20 (by decide) (fun hc => ?_) (fun hc => ?_)
    · replace hf := ineg hc hf
      refine lv_iload_n hx hb dX7_ahead_27 rfl (lv_at hl 3 rfl) ?_
      refine lv_iconst (v := (0 : Int32)) hx hb dX7_ahead_28 (by decide) ?_
      refine lv_iconst (v := (2 : Int32)) hx hb dX7_ahead_29 (by decide) ?_
      obtain ⟨x30, ex30, hf⟩ := obd hf
      refine tcallS (rest := [.ref o]) hx hb hts hown hml hl.1 (mX7_isIn a3 (0 : Int32) (2 : Int32) _ ex30) (cwX7_isIn hts ⟨Nat.le_of_ble_eq_true rfl, Nat.le_of_ble_eq_true rfl⟩) ⟨Nat.le_of_ble_eq_true rfl, Nat.le_of_ble_eq_true rfl⟩ rfl rfl (lv_room (Nat.le_of_ble_eq_true rfl)) dX7_ahead_30 ?_
      refine lv_if_ne (tgt := 40) hx hb dX7_ahead_33 (by decide) (fun hc => ?_) (fun hc => ?_)
      · replace hf := ineg hc hf
        refine lv_iconst (v := (0 : Int32)) hx hb dX7_ahead_40 (by decide) ?_
        exact hJ41 τ (0 : Int32) H locs ls hf hI  (lv_sub hl [0, 1, 2, 3] rfl)
      · replace hf := ipos hc hf
        refine lv_iconst (v := (3 : Int32)) hx hb dX7_ahead_36 (by decide) ?_
        refine lv_goto (tgt := 41) hx hb dX7_ahead_37 (by decide) ?_
        exact hJ41 τ (3 : Int32) H locs ls hf hI  (lv_sub hl [0, 1, 2, 3] rfl)
    · replace hf := ipos hc hf
      refine lv_iconst (v := (2 : Int32)) hx hb dX7_ahead_23 (by decide) ?_
      refine lv_goto (tgt := 41) hx hb dX7_ahead_24 (by decide) ?_
      exact hJ41 τ (2 : Int32) H locs ls hf hI  (lv_sub hl [0, 1, 2, 3] rfl)
  · replace hf := ipos hc hf
    refine lv_iconst (v := (1 : Int32)) hx hb dX7_ahead_9 (by decide) ?_
    refine lv_goto (tgt := 41) hx hb dX7_ahead_10 (by decide) ?_
    exact hJ41 τ (1 : Int32) H locs ls hf hI  (lv_sub hl [0, 1, 2, 3] rfl)


def X7_trial_J16 (τ : Mm) (a1 : Int32) (a2 : Int32) (y0 : Int32) : Option (Int32 × Mm) :=
  (some (mup τ 10 0 y0)).bind fun t16 =>
  if (t16 10 0) ≤ (0 : Int32) then
    (X7_putsAside t16).bind fun t29 =>
    (X7_goes t29 a1 (1 : Int32)).bind fun x35 =>
    if a2 = (0 : Int32) then
      (X7_inState x35.2 (1 : Int32)).bind fun x52 =>
      (X7_comesBack x35.2).bind fun t58 =>
      some (x52, t58)
    else
      (X7_brokenOnes x35.2).bind fun x44 =>
      (X7_comesBack x35.2).bind fun t58_10 =>
      some (x44, t58_10)
  else
    some ((0 : Int32), t16)
def X7_trial (τ : Mm) (a1 : Int32) (a2 : Int32) : Option (Int32 × Mm) :=
  (X7_isIn a1 (0 : Int32) (80 : Int32)).bind fun x5 =>
  if x5 = (0 : Int32) then
    X7_trial_J16 τ a1 a2 (1 : Int32)
  else
    X7_trial_J16 τ a1 a2 (0 : Int32)
set_option maxHeartbeats 4000000 in
theorem mX7_trial (τ : Mm) (a1 : Int32) (a2 : Int32) (r : Int32) (τ' : Mm) (hf : X7_trial τ a1 a2 = some (r, τ')) : TMi yX7_trial cX7_trial 5 (some .int) 695 20119 (fun aK => [.int a1, .int a2]) r τ τ' := by
  refine TMi.of (by decide) rfl (fun _ _ => Nat.le_of_ble_eq_true rfl) ?_
  intro p l e s m args below meth c D cI cZ o z aK aV Q ls hz hx hb hml hown hts hE hret hI hl
  obtain ⟨H, eH⟩ : ∃ H, H = s.heap := ⟨_, rfl⟩
  obtain ⟨locs, eL⟩ : ∃ L : List Loc, L = [] := ⟨_, rfl⟩
  rw [← eH, ← eL] at hI ⊢
  have hl : lv_has ls 5 [(0, .ref o), (1, .int a1), (2, .int a2)] := hl
  unfold X7_trial at hf
  have hJ16 : ∀ (τ : Mm) (y0 : Int32) (H : Heap) (locs : List Loc) (ls : Array Slot), X7_trial_J16 τ a1 a2 y0 = some (r, τ') → IT D cI cZ o s H locs τ → lv_has ls 5 [(0, .ref o), (1, .int a1), (2, .int a2)] → W p l e ({ frames := 695, cells := 0, slots := 0, locals := 20119 } : Room) s m args below meth c H locs 0 0 Q (F0 m 16 ls [.int y0, .ref o]) := by
    intro τ y0 H locs ls hf hI hl
    unfold X7_trial_J16 at hf
    obtain ⟨t16, et16, hf⟩ := obd hf
    refine tput hx hb hts hown hE hI 0 (by decide) q2100 rfl (tyX7_ok 0 (by decide)) rfl rfl rfl et16 dX7_trial_16 (fun H locs hI => ?_)
    refine lv_aload_n hx hb dX7_trial_19 rfl (lv_at hl 0 rfl) ?_
    refine tget hx hb hts hown hE hI 0 (by decide) q2100 rfl dX7_trial_20 ?_
    refine lv_if_le (tgt := 28) hx hb dX7_trial_23 (by decide) (fun hc => ?_) (fun hc => ?_)
    · replace hf := ipos hc hf
      refine lv_aload_n hx hb dX7_trial_28 rfl (lv_at hl 0 rfl) ?_
      obtain ⟨t29, et29, hf⟩ := obd hf
      refine tcallV (rest := []) hx hb hts hown hE hz hI hml hl.1 (mX7_putsAside t16 _ et29) (cwX7_putsAside hts ⟨Nat.le_of_ble_eq_true rfl, Nat.le_of_ble_eq_true rfl⟩) ⟨Nat.le_of_ble_eq_true rfl, Nat.le_of_ble_eq_true rfl⟩ rfl rfl (lv_room (Nat.le_of_ble_eq_true rfl)) dX7_trial_29 (fun H locs hI => ?_)
      refine lv_aload_n hx hb dX7_trial_32 rfl (lv_at hl 0 rfl) ?_
      refine lv_iload_n hx hb dX7_trial_33 rfl (lv_at hl 1 rfl) ?_
      refine lv_iconst (v := (1 : Int32)) hx hb dX7_trial_34 (by decide) ?_
      obtain ⟨x35, ex35, hf⟩ := obd hf
      refine tcallI (rest := []) hx hb hts hown hE hz hI hml hl.1 (mX7_goes t29 a1 (1 : Int32) _ _ ex35) (cwX7_goes hts ⟨Nat.le_of_ble_eq_true rfl, Nat.le_of_ble_eq_true rfl⟩) ⟨Nat.le_of_ble_eq_true rfl, Nat.le_of_ble_eq_true rfl⟩ rfl rfl (lv_room (Nat.le_of_ble_eq_true rfl)) dX7_trial_35 (fun H locs hI => ?_)
      refine lv_istore_n (lv' := [(3, .int x35.1), (0, .ref o), (1, .int a1), (2, .int a2)]) hx hb dX7_trial_38 rfl hl (by decide) rfl (fun ls hl => ?_)
      refine lv_iload_n hx hb dX7_trial_39 rfl (lv_at hl 3 rfl) ?_
      refine lv_if_eq (tgt := 50) hx hb dX7_trial_40 (by decide) (fun hc => ?_) (fun hc => ?_)
      · replace hf := ipos hc hf
        refine lv_aload_n hx hb dX7_trial_50 rfl (lv_at hl 1 rfl) ?_
        refine lv_iconst (v := (1 : Int32)) hx hb dX7_trial_51 (by decide) ?_
        obtain ⟨x52, ex52, hf⟩ := obd hf
        refine tcallI (rest := []) hx hb hts hown hE hz hI hml hl.1 (mX7_inState x35.2 (1 : Int32) _ ex52) (cwX7_inState hts ⟨Nat.le_of_ble_eq_true rfl, Nat.le_of_ble_eq_true rfl⟩) ⟨Nat.le_of_ble_eq_true rfl, Nat.le_of_ble_eq_true rfl⟩ rfl rfl (lv_room (Nat.le_of_ble_eq_true rfl)) dX7_trial_52 (fun H locs hI => ?_)
        refine lv_istore (lv' := [(4, .int x52), (3, .int x35.1), (0, .ref o), (1, .int a1), (2, .int a2)]) hx hb dX7_trial_55 hl (by decide) rfl (fun ls hl => ?_)
        refine lv_aload_n hx hb dX7_trial_57 rfl (lv_at hl 2 rfl) ?_
        obtain ⟨t58, et58, hf⟩ := obd hf
        refine tcallV (rest := []) hx hb hts hown hE hz hI hml hl.1 (mX7_comesBack x35.2 _ et58) (cwX7_comesBack hts ⟨Nat.le_of_ble_eq_true rfl, Nat.le_of_ble_eq_true rfl⟩) ⟨Nat.le_of_ble_eq_true rfl, Nat.le_of_ble_eq_true rfl⟩ rfl rfl (lv_room (Nat.le_of_ble_eq_true rfl)) dX7_trial_58 (fun H locs hI => ?_)
        refine lv_iload hx hb dX7_trial_61 (lv_at hl 0 rfl) ?_
        have hf := Prod.mk.inj (Option.some.inj hf)
        rw [hf.1]
        exact hret H locs 63 ls (hf.2 ▸ hI) dX7_trial_63
      · replace hf := ineg hc hf
        refine lv_aload_n hx hb dX7_trial_43 rfl (lv_at hl 1 rfl) ?_
        obtain ⟨x44, ex44, hf⟩ := obd hf
        refine tcallI (rest := []) hx hb hts hown hE hz hI hml hl.1 (mX7_brokenOnes x35.2 _ ex44) (cwX7_brokenOnes hts ⟨Nat.le_of_ble_eq_true rfl, Nat.le_of_ble_eq_true rfl⟩) ⟨Nat.le_of_ble_eq_true rfl, Nat.le_of_ble_eq_true rfl⟩ rfl rfl (lv_room (Nat.le_of_ble_eq_true rfl)) dX7_trial_44 (fun H locs hI => ?_)
        refine lv_goto (tgt := 55) hx hb dX7_trial_47 (by decide) ?_
        refine lv_istore (lv' := [(4, .int x44), (3, .int x35.1), (0, .ref o), (1, .int a1), (2, .int a2)]) hx hb dX7_trial_55 hl (by decide) rfl (fun ls hl => ?_)
        refine lv_aload_n hx hb dX7_trial_57 rfl (lv_at hl 2 rfl) ?_
        obtain ⟨t58_10, et58_10, hf⟩ := obd hf
        refine tcallV (rest := []) hx hb hts hown hE hz hI hml hl.1 (mX7_comesBack x35.2 _ et58_10) (cwX7_comesBack hts ⟨Nat.le_of_ble_eq_true rfl, Nat.le_of_ble_eq_true rfl⟩) ⟨Nat.le_of_ble_eq_true rfl, Nat.le_of_ble_eq_true rfl⟩ rfl rfl (lv_room (Nat.le_of_ble_eq_true rfl)) dX7_trial_58 (fun H locs hI => ?_)
        refine lv_iload hx hb dX7_trial_61 (lv_at hl 0 rfl) ?_
        have hf := Prod.mk.inj (Option.some.inj hf)
        rw [hf.1]
        exact hret H locs 63 ls (hf.2 ▸ hI) dX7_trial_63
    · replace hf := ineg hc hf
      refine lv_iconst (v := (0 : Int32)) hx hb dX7_trial_26 (by decide) ?_
      have hf := Prod.mk.inj (Option.some.inj hf)
      rw [hf.1]
      exact hret H locs 27 ls (hf.2 ▸ hI) dX7_trial_27
  refine lv_aload_n hx hb dX7_trial_0 rfl (lv_at hl 0 rfl) ?_
  refine lv_iload_n hx hb dX7_trial_1 rfl (lv_at hl 1 rfl) ?_
  refine lv_iconst (v := (0 : Int32)) hx hb dX7_trial_2 (by decide) ?_
  refine lv_bipush (v := (80 : Int32)) hx hb dX7_trial_3 (by decide) ?_
  obtain ⟨x5, ex5, hf⟩ := obd hf
  refine tcallS (rest := [.ref o]) hx hb hts hown hml hl.1 (mX7_isIn a1 (0 : Int32) (80 : Int32) _ ex5) (cwX7_isIn hts ⟨Nat.le_of_ble_eq_true rfl, Nat.le_of_ble_eq_true rfl⟩) ⟨Nat.le_of_ble_eq_true rfl, Nat.le_of_ble_eq_true rfl⟩ rfl rfl (lv_room (Nat.le_of_ble_eq_true rfl)) dX7_trial_5 ?_
  refine lv_if_ne (tgt := 15) hx hb dX7_trial_8 (by decide) (fun hc => ?_) (fun hc => ?_)
  · replace hf := ineg hc hf
    refine lv_iconst (v := (0 : Int32)) hx hb dX7_trial_15 (by decide) ?_
    exact hJ16 τ (0 : Int32) H locs ls hf hI  (lv_sub hl [0, 1, 2] rfl)
  · replace hf := ipos hc hf
    refine lv_iconst (v := (1 : Int32)) hx hb dX7_trial_11 (by decide) ?_
    refine lv_goto (tgt := 16) hx hb dX7_trial_12 (by decide) ?_
    exact hJ16 τ (1 : Int32) H locs ls hf hI  (lv_sub hl [0, 1, 2] rfl)


def X7_paidOnes_L4 (τ : Mm) (w4 : Int32 × Int32) : Option ((Int32 × Int32) ⊕ (Int32)) :=
  if (τ 0 5) ≤ w4.2 then
    some (.inr w4.1)
  else
    (X7_of τ w4.2 (11 : Int32)).bind fun x19 =>
    (some (w4.1 ||| (x19 <<< (w4.2 &&& (31 : Int32))))).bind fun v25 =>
    (some (w4.2 + (1 : Int32))).bind fun v26 =>
    some (.inl (v25, v26))
def X7_paidOnes (τ : Mm) : Option (Int32) :=
  (loopO (X7_paidOnes_L4 τ) FU ((0 : Int32), (0 : Int32))).bind fun e4 =>
  some e4
set_option maxHeartbeats 4000000 in
theorem mX7_paidOnes (τ : Mm) (r : Int32) (hf : X7_paidOnes τ = some r) : TMi yX7_paidOnes cX7_paidOnes 3 (some .int) 2 62 (fun aK => []) r τ τ := by
  refine TMi.of (by decide) rfl (fun _ _ => Nat.le_of_ble_eq_true rfl) ?_
  intro p l e s m args below meth c D cI cZ o z aK aV Q ls hz hx hb hml hown hts hE hret hI hl
  obtain ⟨H, eH⟩ : ∃ H, H = s.heap := ⟨_, rfl⟩
  obtain ⟨locs, eL⟩ : ∃ L : List Loc, L = [] := ⟨_, rfl⟩
  rw [← eH, ← eL] at hI ⊢
  have hl : lv_has ls 3 [(0, .ref o)] := hl
  unfold X7_paidOnes at hf
  refine lv_iconst (v := (0 : Int32)) hx hb dX7_paidOnes_0 (by decide) ?_
  refine lv_istore_n (lv' := [(1, .int (0 : Int32)), (0, .ref o)]) hx hb dX7_paidOnes_1 rfl hl (by decide) rfl (fun ls hl => ?_)
  refine lv_iconst (v := (0 : Int32)) hx hb dX7_paidOnes_2 (by decide) ?_
  refine lv_istore_n (lv' := [(2, .int (0 : Int32)), (1, .int (0 : Int32)), (0, .ref o)]) hx hb dX7_paidOnes_3 rfl hl (by decide) rfl (fun ls hl => ?_)
  obtain ⟨e4, he4, hf⟩ := obd hf
  refine loopO_W (Wat := fun w4 => ∀ (H : Heap) (locs : List Loc) (ls : Array Slot), IT D cI cZ o s H locs τ → lv_has ls 3 [(0, .ref o), (1, .int w4.1), (2, .int w4.2)] → W p l e ({ frames := 2, cells := 0, slots := 0, locals := 62 } : Room) s m args below meth c H locs 0 0 Q (F0 m 4 ls [])) (Wex := fun ex_ => ∀ (H : Heap) (locs : List Loc) (ls : Array Slot), IT D cI cZ o s H locs τ → lv_has ls 3 [(1, .int ex_)] → W p l e ({ frames := 2, cells := 0, slots := 0, locals := 62 } : Room) s m args below meth c H locs 0 0 Q (F0 m 32 ls [])) (fun w4 o4 hf hk hq => ?_) FU _ e4 he4 ?_ H locs ls hI (lv_sub hl [2, 1, 0] rfl)
  · intro H locs ls hI hl
    unfold X7_paidOnes_L4 at hf
    refine lv_iload_n hx hb dX7_paidOnes_4 rfl (lv_at hl 2 rfl) ?_
    refine lv_aload_n hx hb dX7_paidOnes_5 rfl (lv_at hl 0 rfl) ?_
    refine tget hx hb hts hown hE hI 1 (by decide) q2101 rfl dX7_paidOnes_6 ?_
    refine lv_iconst (v := (5 : Int32)) hx hb dX7_paidOnes_9 (by decide) ?_
    refine taldc hx hb hE hI 1 781 5 rfl (by decide) (by decide) dX7_paidOnes_10 ?_
    refine lv_icmp_ge (tgt := 32) hx hb dX7_paidOnes_11 (by decide) (fun hc => ?_) (fun hc => ?_)
    · replace hf := ipos hc hf
      exact hq _ (Option.some.inj hf).symm H locs ls hI (lv_sub hl [1] rfl)
    · replace hf := ineg hc hf
      refine lv_iload_n hx hb dX7_paidOnes_14 rfl (lv_at hl 1 rfl) ?_
      refine lv_aload_n hx hb dX7_paidOnes_15 rfl (lv_at hl 0 rfl) ?_
      refine lv_iload_n hx hb dX7_paidOnes_16 rfl (lv_at hl 2 rfl) ?_
      refine lv_bipush (v := (11 : Int32)) hx hb dX7_paidOnes_17 (by decide) ?_
      obtain ⟨x19, ex19, hf⟩ := obd hf
      refine tcallI (rest := [.int w4.1]) hx hb hts hown hE hz hI hml hl.1 (mX7_of τ w4.2 (11 : Int32) _ ex19) (cwX7_of hts ⟨Nat.le_of_ble_eq_true rfl, Nat.le_of_ble_eq_true rfl⟩) ⟨Nat.le_of_ble_eq_true rfl, Nat.le_of_ble_eq_true rfl⟩ rfl rfl (lv_room (Nat.le_of_ble_eq_true rfl)) dX7_paidOnes_19 (fun H locs hI => ?_)
      refine lv_iload_n hx hb dX7_paidOnes_22 rfl (lv_at hl 2 rfl) ?_
      refine lv_ishl hx hb dX7_paidOnes_23 ?_
      refine lv_ior hx hb dX7_paidOnes_24 ?_
      obtain ⟨v25, ev25, hf⟩ := obd hf
      refine nmI ev25 ?_
      refine lv_istore_n (lv' := [(1, .int v25), (0, .ref o), (2, .int w4.2)]) hx hb dX7_paidOnes_25 rfl hl (by decide) rfl (fun ls hl => ?_)
      obtain ⟨v26, ev26, hf⟩ := obd hf
      refine lv_iinc (v := v26) (lv' := [(2, .int v26), (1, .int v25), (0, .ref o)]) hx hb dX7_paidOnes_26 hl (k := 2) rfl (iiE ev26 (by decide)) (by decide) rfl (fun ls hl => ?_)
      refine lv_goto (tgt := 4) hx hb dX7_paidOnes_29 (by decide) ?_
      exact hk _ (Option.some.inj hf).symm H locs ls hI (lv_sub hl [2, 1, 0] rfl)
  · skip
    intro H locs ls hI hl
    refine lv_iload_n hx hb dX7_paidOnes_32 rfl (lv_at hl 0 rfl) ?_
    have hf := Option.some.inj hf
    rw [hf]
    exact hret H locs 33 ls hI dX7_paidOnes_33
theorem cwX7_paidOnes {R : Room} {s : State} {args : Array Value} {fr lo : Nat} (hts : ∀ w ∈ lw_all, w.before args s = true) (hR : fr + 1 ≤ R.frames ∧ 8 + (3 + 11) + lo ≤ R.locals) : CallW R s args RX7 RX7 398 yX7_paidOnes cX7_paidOnes 3 (some .int) (ws_ yX7_paidOnes cX7_paidOnes 3 (some .int)) ({ frames := fr, cells := 0, slots := 0, locals := lo }) 0 0 0 :=
  cwV 0 hts (lw_V q2702 q2704 qs130 q143 q2705) rfl rfl rfl (by decide +kernel) hR

def X7_span_L37 (c1 : Int32) (c2 : Int32) (w37 : Mm × Int32 × Int32) : Option ((Mm × Int32 × Int32) ⊕ (Mm × Int32)) :=
  if (6 : Int32) < w37.2.2 then
    some (.inr (w37.1, w37.2.1))
  else
    (sto 781 w37.1 0 (10 : Int32) w37.2.2).bind fun t52 =>
    (X7_goes t52 c1 (1 : Int32)).bind fun x56 =>
    (X7_paidOnes x56.2).bind fun x62 =>
    (X7_bits x62).bind fun x65 =>
    (X7_comesBack x56.2).bind fun t71 =>
    if w37.2.1 = (-1 : Int32) then
      (some (w37.2.2 + (1 : Int32))).bind fun v104_14 =>
      some (.inl (t71, x65, v104_14))
    else
      if c2 = (0 : Int32) then
        (X7_lesser w37.2.1 x65).bind fun x100 =>
        (some (w37.2.2 + (1 : Int32))).bind fun v104 =>
        some (.inl (t71, x100, v104))
      else
        (X7_greater w37.2.1 x65).bind fun x91 =>
        (some (w37.2.2 + (1 : Int32))).bind fun v104_13 =>
        some (.inl (t71, x91, v104_13))
def X7_span_J16 (τ : Mm) (a1 : Int32) (a2 : Int32) (y0 : Int32) : Option (Int32 × Mm) :=
  (some (mup τ 10 0 y0)).bind fun t16 =>
  if (t16 10 0) ≤ (0 : Int32) then
    (X7_putsAside t16).bind fun t29 =>
    (loopO (X7_span_L37 a1 a2) FU (t29, (-1 : Int32), (1 : Int32))).bind fun e37 =>
    some (e37.2, e37.1)
  else
    some ((0 : Int32), t16)
def X7_span (τ : Mm) (a1 : Int32) (a2 : Int32) : Option (Int32 × Mm) :=
  (X7_isIn a1 (0 : Int32) (80 : Int32)).bind fun x5 =>
  if x5 = (0 : Int32) then
    X7_span_J16 τ a1 a2 (1 : Int32)
  else
    X7_span_J16 τ a1 a2 (0 : Int32)
set_option maxHeartbeats 4000000 in
theorem mX7_span (τ : Mm) (a1 : Int32) (a2 : Int32) (r : Int32) (τ' : Mm) (hf : X7_span τ a1 a2 = some (r, τ')) : TMi yX7_span cX7_span 7 (some .int) 695 20119 (fun aK => [.int a1, .int a2]) r τ τ' := by
  refine TMi.of (by decide) rfl (fun _ _ => Nat.le_of_ble_eq_true rfl) ?_
  intro p l e s m args below meth c D cI cZ o z aK aV Q ls hz hx hb hml hown hts hE hret hI hl
  obtain ⟨H, eH⟩ : ∃ H, H = s.heap := ⟨_, rfl⟩
  obtain ⟨locs, eL⟩ : ∃ L : List Loc, L = [] := ⟨_, rfl⟩
  rw [← eH, ← eL] at hI ⊢
  have hl : lv_has ls 7 [(0, .ref o), (1, .int a1), (2, .int a2)] := hl
  unfold X7_span at hf
  have hJ16 : ∀ (τ : Mm) (y0 : Int32) (H : Heap) (locs : List Loc) (ls : Array Slot), X7_span_J16 τ a1 a2 y0 = some (r, τ') → IT D cI cZ o s H locs τ → lv_has ls 7 [(0, .ref o), (1, .int a1), (2, .int a2)] → W p l e ({ frames := 695, cells := 0, slots := 0, locals := 20119 } : Room) s m args below meth c H locs 0 0 Q (F0 m 16 ls [.int y0, .ref o]) := by
    intro τ y0 H locs ls hf hI hl
    unfold X7_span_J16 at hf
    obtain ⟨t16, et16, hf⟩ := obd hf
    refine tput hx hb hts hown hE hI 0 (by decide) q2100 rfl (tyX7_ok 0 (by decide)) rfl rfl rfl et16 dX7_span_16 (fun H locs hI => ?_)
    refine lv_aload_n hx hb dX7_span_19 rfl (lv_at hl 0 rfl) ?_
    refine tget hx hb hts hown hE hI 0 (by decide) q2100 rfl dX7_span_20 ?_
    refine lv_if_le (tgt := 28) hx hb dX7_span_23 (by decide) (fun hc => ?_) (fun hc => ?_)
    · replace hf := ipos hc hf
      refine lv_aload_n hx hb dX7_span_28 rfl (lv_at hl 0 rfl) ?_
      obtain ⟨t29, et29, hf⟩ := obd hf
      refine tcallV (rest := []) hx hb hts hown hE hz hI hml hl.1 (mX7_putsAside t16 _ et29) (cwX7_putsAside hts ⟨Nat.le_of_ble_eq_true rfl, Nat.le_of_ble_eq_true rfl⟩) ⟨Nat.le_of_ble_eq_true rfl, Nat.le_of_ble_eq_true rfl⟩ rfl rfl (lv_room (Nat.le_of_ble_eq_true rfl)) dX7_span_29 (fun H locs hI => ?_)
      refine lv_iconst (v := (-1 : Int32)) hx hb dX7_span_32 (by decide) ?_
      refine lv_istore_n (lv' := [(3, .int (-1 : Int32)), (0, .ref o), (1, .int a1), (2, .int a2)]) hx hb dX7_span_33 rfl hl (by decide) rfl (fun ls hl => ?_)
      refine lv_iconst (v := (1 : Int32)) hx hb dX7_span_34 (by decide) ?_
      refine lv_istore (lv' := [(4, .int (1 : Int32)), (3, .int (-1 : Int32)), (0, .ref o), (1, .int a1), (2, .int a2)]) hx hb dX7_span_35 hl (by decide) rfl (fun ls hl => ?_)
      obtain ⟨e37, he37, hf⟩ := obd hf
      have hs37 : ∀ (c1 : Int32) (c2 : Int32), ∀ (w37 : Mm × Int32 × Int32) (o37 : (Mm × Int32 × Int32) ⊕ (Mm × Int32)), X7_span_L37 c1 c2 w37 = some o37 → (∀ wx_, o37 = .inl wx_ → ∀ (H : Heap) (locs : List Loc) (ls : Array Slot), IT D cI cZ o s H locs wx_.1 → lv_has ls 7 [(0, .ref o), (1, .int c1), (2, .int c2), (3, .int wx_.2.1), (4, .int wx_.2.2)] → W p l e ({ frames := 695, cells := 0, slots := 0, locals := 20119 } : Room) s m args below meth c H locs 0 0 Q (F0 m 37 ls [])) → (∀ ex_, o37 = .inr ex_ → ∀ (H : Heap) (locs : List Loc) (ls : Array Slot), IT D cI cZ o s H locs ex_.1 → lv_has ls 7 [(3, .int ex_.2)] → W p l e ({ frames := 695, cells := 0, slots := 0, locals := 20119 } : Room) s m args below meth c H locs 0 0 Q (F0 m 110 ls [])) → ∀ (H : Heap) (locs : List Loc) (ls : Array Slot), IT D cI cZ o s H locs w37.1 → lv_has ls 7 [(0, .ref o), (1, .int c1), (2, .int c2), (3, .int w37.2.1), (4, .int w37.2.2)] → W p l e ({ frames := 695, cells := 0, slots := 0, locals := 20119 } : Room) s m args below meth c H locs 0 0 Q (F0 m 37 ls []) := by
        intro c1 c2 w37 o37 hf hk hq H locs ls hI hl
        unfold X7_span_L37 at hf
        refine lv_iload hx hb dX7_span_37 (lv_at hl 4 rfl) ?_
        refine lv_bipush (v := (6 : Int32)) hx hb dX7_span_39 (by decide) ?_
        refine lv_icmp_gt (tgt := 110) hx hb dX7_span_41 (by decide) (fun hc => ?_) (fun hc => ?_)
        · replace hf := ipos hc hf
          exact hq _ (Option.some.inj hf).symm H locs ls hI (lv_sub hl [3] rfl)
        · replace hf := ineg hc hf
          refine lv_aload_n hx hb dX7_span_44 rfl (lv_at hl 0 rfl) ?_
          refine tget hx hb hts hown hE hI 1 (by decide) q2101 rfl dX7_span_45 ?_
          refine lv_bipush (v := (10 : Int32)) hx hb dX7_span_48 (by decide) ?_
          refine lv_iload hx hb dX7_span_50 (lv_at hl 4 rfl) ?_
          obtain ⟨t52, et52, hf⟩ := obd hf
          refine tast hx hb hE hI 1 781 0 rfl (fun _ => rfl) et52 dX7_span_52 (fun H locs hI => ?_)
          refine lv_aload_n hx hb dX7_span_53 rfl (lv_at hl 0 rfl) ?_
          refine lv_iload_n hx hb dX7_span_54 rfl (lv_at hl 1 rfl) ?_
          refine lv_iconst (v := (1 : Int32)) hx hb dX7_span_55 (by decide) ?_
          obtain ⟨x56, ex56, hf⟩ := obd hf
          refine tcallI (rest := []) hx hb hts hown hE hz hI hml hl.1 (mX7_goes t52 c1 (1 : Int32) _ _ ex56) (cwX7_goes hts ⟨Nat.le_of_ble_eq_true rfl, Nat.le_of_ble_eq_true rfl⟩) ⟨Nat.le_of_ble_eq_true rfl, Nat.le_of_ble_eq_true rfl⟩ rfl rfl (lv_room (Nat.le_of_ble_eq_true rfl)) dX7_span_56 (fun H locs hI => ?_)
          refine lv_istore (lv' := [(5, .int x56.1), (0, .ref o), (1, .int c1), (2, .int c2), (3, .int w37.2.1), (4, .int w37.2.2)]) hx hb dX7_span_59 hl (by decide) rfl (fun ls hl => ?_)
          refine lv_aload_n hx hb dX7_span_61 rfl (lv_at hl 1 rfl) ?_
          obtain ⟨x62, ex62, hf⟩ := obd hf
          refine tcallI (rest := []) hx hb hts hown hE hz hI hml hl.1 (mX7_paidOnes x56.2 _ ex62) (cwX7_paidOnes hts ⟨Nat.le_of_ble_eq_true rfl, Nat.le_of_ble_eq_true rfl⟩) ⟨Nat.le_of_ble_eq_true rfl, Nat.le_of_ble_eq_true rfl⟩ rfl rfl (lv_room (Nat.le_of_ble_eq_true rfl)) dX7_span_62 (fun H locs hI => ?_)
          obtain ⟨x65, ex65, hf⟩ := obd hf
          refine tcallS (rest := []) hx hb hts hown hml hl.1 (mX7_bits x62 _ ex65) (cwX7_bits hts ⟨Nat.le_of_ble_eq_true rfl, Nat.le_of_ble_eq_true rfl⟩) ⟨Nat.le_of_ble_eq_true rfl, Nat.le_of_ble_eq_true rfl⟩ rfl rfl (lv_room (Nat.le_of_ble_eq_true rfl)) dX7_span_65 ?_
          refine lv_istore (lv' := [(6, .int x65), (5, .int x56.1), (0, .ref o), (1, .int c1), (2, .int c2), (3, .int w37.2.1), (4, .int w37.2.2)]) hx hb dX7_span_68 hl (by decide) rfl (fun ls hl => ?_)
          refine lv_aload_n hx hb dX7_span_70 rfl (lv_at hl 2 rfl) ?_
          obtain ⟨t71, et71, hf⟩ := obd hf
          refine tcallV (rest := []) hx hb hts hown hE hz hI hml hl.1 (mX7_comesBack x56.2 _ et71) (cwX7_comesBack hts ⟨Nat.le_of_ble_eq_true rfl, Nat.le_of_ble_eq_true rfl⟩) ⟨Nat.le_of_ble_eq_true rfl, Nat.le_of_ble_eq_true rfl⟩ rfl rfl (lv_room (Nat.le_of_ble_eq_true rfl)) dX7_span_71 (fun H locs hI => ?_)
          refine lv_iload_n hx hb dX7_span_74 rfl (lv_at hl 5 rfl) ?_
          refine lv_iconst (v := (-1 : Int32)) hx hb dX7_span_75 (by decide) ?_
          refine lv_icmp_ne (tgt := 84) hx hb dX7_span_76 (by decide) (fun hc => ?_) (fun hc => ?_)
          · replace hf := ineg hc hf
            refine lv_iload_n hx hb dX7_span_84 rfl (lv_at hl 4 rfl) ?_
            refine lv_if_eq (tgt := 97) hx hb dX7_span_85 (by decide) (fun hc => ?_) (fun hc => ?_)
            · replace hf := ipos hc hf
              refine lv_iload_n hx hb dX7_span_97 rfl (lv_at hl 5 rfl) ?_
              refine lv_iload hx hb dX7_span_98 (lv_at hl 0 rfl) ?_
              obtain ⟨x100, ex100, hf⟩ := obd hf
              refine tcallS (rest := []) hx hb hts hown hml hl.1 (mX7_lesser w37.2.1 x65 _ ex100) (cwX7_lesser hts ⟨Nat.le_of_ble_eq_true rfl, Nat.le_of_ble_eq_true rfl⟩) ⟨Nat.le_of_ble_eq_true rfl, Nat.le_of_ble_eq_true rfl⟩ rfl rfl (lv_room (Nat.le_of_ble_eq_true rfl)) dX7_span_100 ?_
              refine lv_istore_n (lv' := [(3, .int x100), (6, .int x65), (5, .int x56.1), (0, .ref o), (1, .int c1), (2, .int c2), (4, .int w37.2.2)]) hx hb dX7_span_103 rfl hl (by decide) rfl (fun ls hl => ?_)
              obtain ⟨v104, ev104, hf⟩ := obd hf
              refine lv_iinc (v := v104) (lv' := [(4, .int v104), (3, .int x100), (6, .int x65), (5, .int x56.1), (0, .ref o), (1, .int c1), (2, .int c2)]) hx hb dX7_span_104 hl (k := 6) rfl (iiE ev104 (by decide)) (by decide) rfl (fun ls hl => ?_)
              refine lv_goto (tgt := 37) hx hb dX7_span_107 (by decide) ?_
              exact hk _ (Option.some.inj hf).symm H locs ls hI (lv_sub hl [4, 5, 6, 1, 0] rfl)
            · replace hf := ineg hc hf
              refine lv_iload_n hx hb dX7_span_88 rfl (lv_at hl 5 rfl) ?_
              refine lv_iload hx hb dX7_span_89 (lv_at hl 0 rfl) ?_
              obtain ⟨x91, ex91, hf⟩ := obd hf
              refine tcallS (rest := []) hx hb hts hown hml hl.1 (mX7_greater w37.2.1 x65 _ ex91) (cwX7_greater hts ⟨Nat.le_of_ble_eq_true rfl, Nat.le_of_ble_eq_true rfl⟩) ⟨Nat.le_of_ble_eq_true rfl, Nat.le_of_ble_eq_true rfl⟩ rfl rfl (lv_room (Nat.le_of_ble_eq_true rfl)) dX7_span_91 ?_
              refine lv_goto (tgt := 103) hx hb dX7_span_94 (by decide) ?_
              refine lv_istore_n (lv' := [(3, .int x91), (6, .int x65), (5, .int x56.1), (0, .ref o), (1, .int c1), (2, .int c2), (4, .int w37.2.2)]) hx hb dX7_span_103 rfl hl (by decide) rfl (fun ls hl => ?_)
              obtain ⟨v104_13, ev104_13, hf⟩ := obd hf
              refine lv_iinc (v := v104_13) (lv' := [(4, .int v104_13), (3, .int x91), (6, .int x65), (5, .int x56.1), (0, .ref o), (1, .int c1), (2, .int c2)]) hx hb dX7_span_104 hl (k := 6) rfl (iiE ev104_13 (by decide)) (by decide) rfl (fun ls hl => ?_)
              refine lv_goto (tgt := 37) hx hb dX7_span_107 (by decide) ?_
              exact hk _ (Option.some.inj hf).symm H locs ls hI (lv_sub hl [4, 5, 6, 1, 0] rfl)
          · replace hf := ipos hc hf
            refine lv_iload hx hb dX7_span_79 (lv_at hl 0 rfl) ?_
            refine lv_goto (tgt := 103) hx hb dX7_span_81 (by decide) ?_
            refine lv_istore_n (lv' := [(3, .int x65), (6, .int x65), (5, .int x56.1), (0, .ref o), (1, .int c1), (2, .int c2), (4, .int w37.2.2)]) hx hb dX7_span_103 rfl hl (by decide) rfl (fun ls hl => ?_)
            obtain ⟨v104_14, ev104_14, hf⟩ := obd hf
            refine lv_iinc (v := v104_14) (lv' := [(4, .int v104_14), (3, .int x65), (6, .int x65), (5, .int x56.1), (0, .ref o), (1, .int c1), (2, .int c2)]) hx hb dX7_span_104 hl (k := 6) rfl (iiE ev104_14 (by decide)) (by decide) rfl (fun ls hl => ?_)
            refine lv_goto (tgt := 37) hx hb dX7_span_107 (by decide) ?_
            exact hk _ (Option.some.inj hf).symm H locs ls hI (lv_sub hl [4, 5, 6, 1, 0] rfl)
      refine loopO_W (Wat := fun w37 => ∀ (H : Heap) (locs : List Loc) (ls : Array Slot), IT D cI cZ o s H locs w37.1 → lv_has ls 7 [(0, .ref o), (1, .int a1), (2, .int a2), (3, .int w37.2.1), (4, .int w37.2.2)] → W p l e ({ frames := 695, cells := 0, slots := 0, locals := 20119 } : Room) s m args below meth c H locs 0 0 Q (F0 m 37 ls [])) (Wex := fun ex_ => ∀ (H : Heap) (locs : List Loc) (ls : Array Slot), IT D cI cZ o s H locs ex_.1 → lv_has ls 7 [(3, .int ex_.2)] → W p l e ({ frames := 695, cells := 0, slots := 0, locals := 20119 } : Room) s m args below meth c H locs 0 0 Q (F0 m 110 ls [])) (hs37 a1 a2) FU _ e37 he37 ?_ H locs ls hI (lv_sub hl [2, 3, 4, 1, 0] rfl)
      · skip
        intro H locs ls hI hl
        refine lv_iload_n hx hb dX7_span_110 rfl (lv_at hl 0 rfl) ?_
        have hf := Prod.mk.inj (Option.some.inj hf)
        rw [hf.1]
        exact hret H locs 111 ls (hf.2 ▸ hI) dX7_span_111
    · replace hf := ineg hc hf
      refine lv_iconst (v := (0 : Int32)) hx hb dX7_span_26 (by decide) ?_
      have hf := Prod.mk.inj (Option.some.inj hf)
      rw [hf.1]
      exact hret H locs 27 ls (hf.2 ▸ hI) dX7_span_27
  refine lv_aload_n hx hb dX7_span_0 rfl (lv_at hl 0 rfl) ?_
  refine lv_iload_n hx hb dX7_span_1 rfl (lv_at hl 1 rfl) ?_
  refine lv_iconst (v := (0 : Int32)) hx hb dX7_span_2 (by decide) ?_
  refine lv_bipush (v := (80 : Int32)) hx hb dX7_span_3 (by decide) ?_
  obtain ⟨x5, ex5, hf⟩ := obd hf
  refine tcallS (rest := [.ref o]) hx hb hts hown hml hl.1 (mX7_isIn a1 (0 : Int32) (80 : Int32) _ ex5) (cwX7_isIn hts ⟨Nat.le_of_ble_eq_true rfl, Nat.le_of_ble_eq_true rfl⟩) ⟨Nat.le_of_ble_eq_true rfl, Nat.le_of_ble_eq_true rfl⟩ rfl rfl (lv_room (Nat.le_of_ble_eq_true rfl)) dX7_span_5 ?_
  refine lv_if_ne (tgt := 15) hx hb dX7_span_8 (by decide) (fun hc => ?_) (fun hc => ?_)
  · replace hf := ineg hc hf
    refine lv_iconst (v := (0 : Int32)) hx hb dX7_span_15 (by decide) ?_
    exact hJ16 τ (0 : Int32) H locs ls hf hI  (lv_sub hl [0, 1, 2] rfl)
  · replace hf := ipos hc hf
    refine lv_iconst (v := (1 : Int32)) hx hb dX7_span_11 (by decide) ?_
    refine lv_goto (tgt := 16) hx hb dX7_span_12 (by decide) ?_
    exact hJ16 τ (1 : Int32) H locs ls hf hI  (lv_sub hl [0, 1, 2] rfl)


def X7_logged (τ : Mm) (a1 : Int32) (a2 : Int32) : Option (Int32) :=
  (ld 781 (τ 0) (((141 : Int32) + ((4 : Int32) * a1)) + a2)).bind fun x13 =>
  some x13
set_option maxHeartbeats 4000000 in
theorem mX7_logged (τ : Mm) (a1 : Int32) (a2 : Int32) (r : Int32) (hf : X7_logged τ a1 a2 = some r) : TMi yX7_logged cX7_logged 3 (some .int) 1 40 (fun aK => [.int a1, .int a2]) r τ τ := by
  refine TMi.of (by decide) rfl (fun _ _ => Nat.le_of_ble_eq_true rfl) ?_
  intro p l e s m args below meth c D cI cZ o z aK aV Q ls hz hx hb hml hown hts hE hret hI hl
  obtain ⟨H, eH⟩ : ∃ H, H = s.heap := ⟨_, rfl⟩
  obtain ⟨locs, eL⟩ : ∃ L : List Loc, L = [] := ⟨_, rfl⟩
  rw [← eH, ← eL] at hI ⊢
  have hl : lv_has ls 3 [(0, .ref o), (1, .int a1), (2, .int a2)] := hl
  unfold X7_logged at hf
  refine lv_aload_n hx hb dX7_logged_0 rfl (lv_at hl 0 rfl) ?_
  refine tget hx hb hts hown hE hI 1 (by decide) q2101 rfl dX7_logged_1 ?_
  refine lv_sipush (v := (141 : Int32)) hx hb dX7_logged_4 (by decide) ?_
  refine lv_iconst (v := (4 : Int32)) hx hb dX7_logged_7 (by decide) ?_
  refine lv_iload_n hx hb dX7_logged_8 rfl (lv_at hl 1 rfl) ?_
  refine lv_imul hx hb dX7_logged_9 ?_
  refine lv_iadd hx hb dX7_logged_10 ?_
  refine lv_iload_n hx hb dX7_logged_11 rfl (lv_at hl 2 rfl) ?_
  refine lv_iadd hx hb dX7_logged_12 ?_
  obtain ⟨x13, ex13, hf⟩ := obd hf
  refine tald hx hb hE hI 1 781 rfl ex13 dX7_logged_13 ?_
  have hf := Option.some.inj hf
  rw [hf]
  exact hret H locs 14 ls hI dX7_logged_14
theorem cwX7_logged {R : Room} {s : State} {args : Array Value} {fr lo : Nat} (hts : ∀ w ∈ lw_all, w.before args s = true) (hR : fr + 1 ≤ R.frames ∧ 8 + (3 + 11) + lo ≤ R.locals) : CallW R s args RX7 RX7 401 yX7_logged cX7_logged 3 (some .int) (ws_ yX7_logged cX7_logged 3 (some .int)) ({ frames := fr, cells := 0, slots := 0, locals := lo }) 0 0 2 :=
  cwV 2 hts (lw_V q2710 q2712 qs131 q143 q2713) rfl rfl rfl (by decide +kernel) hR

def X7_led_L42 (τ : Mm) (c1 : Int32) (c2 : Int32) (w42 : Int32 × Int32 × Int32) : Option ((Int32 × Int32 × Int32) ⊕ (Int32 × Int32)) :=
  if w42.2.2 < (0 : Int32) then
    some (.inr (w42.1, w42.2.1))
  else
    (X7_logged τ w42.2.2 (1 : Int32)).bind fun x51 =>
    if x51 = c1 then
      (some (w42.1 + (1 : Int32))).bind fun v61 =>
      (X7_logged τ w42.2.2 (0 : Int32)).bind fun x68 =>
      (some (w42.2.2 + (-1 : Int32))).bind fun v73 =>
      some (.inl (v61, x68, v73))
    else
      (some (w42.2.2 + (-1 : Int32))).bind fun v73_7 =>
      some (.inl (w42.1, w42.2.1, v73_7))
def X7_led_J14 (τ : Mm) (a1 : Int32) (a2 : Int32) (y0 : Int32) : Option (Int32 × Mm) :=
  (some (mup τ 10 0 y0)).bind fun t14 =>
  if (t14 10 0) ≤ (0 : Int32) then
    (some ((t14 0 9) - (1 : Int32))).bind fun v40 =>
    (loopO (X7_led_L42 t14 a1 a2) FU ((0 : Int32), (-1 : Int32), v40)).bind fun e42 =>
    if a2 = (0 : Int32) then
      some (e42.1, t14)
    else
      some (e42.2, t14)
  else
    some ((0 : Int32), t14)
def X7_led (τ : Mm) (a1 : Int32) (a2 : Int32) : Option (Int32 × Mm) :=
  (X7_isDeed τ a1).bind fun x3 =>
  if x3 = (0 : Int32) then
    X7_led_J14 τ a1 a2 (1 : Int32)
  else
    X7_led_J14 τ a1 a2 (0 : Int32)
set_option maxHeartbeats 4000000 in
theorem mX7_led (τ : Mm) (a1 : Int32) (a2 : Int32) (r : Int32) (τ' : Mm) (hf : X7_led τ a1 a2 = some (r, τ')) : TMi yX7_led cX7_led 6 (some .int) 3 83 (fun aK => [.int a1, .int a2]) r τ τ' := by
  refine TMi.of (by decide) rfl (fun _ _ => Nat.le_of_ble_eq_true rfl) ?_
  intro p l e s m args below meth c D cI cZ o z aK aV Q ls hz hx hb hml hown hts hE hret hI hl
  obtain ⟨H, eH⟩ : ∃ H, H = s.heap := ⟨_, rfl⟩
  obtain ⟨locs, eL⟩ : ∃ L : List Loc, L = [] := ⟨_, rfl⟩
  rw [← eH, ← eL] at hI ⊢
  have hl : lv_has ls 6 [(0, .ref o), (1, .int a1), (2, .int a2)] := hl
  unfold X7_led at hf
  have hJ14 : ∀ (τ : Mm) (y0 : Int32) (H : Heap) (locs : List Loc) (ls : Array Slot), X7_led_J14 τ a1 a2 y0 = some (r, τ') → IT D cI cZ o s H locs τ → lv_has ls 6 [(0, .ref o), (1, .int a1), (2, .int a2)] → W p l e ({ frames := 3, cells := 0, slots := 0, locals := 83 } : Room) s m args below meth c H locs 0 0 Q (F0 m 14 ls [.int y0, .ref o]) := by
    intro τ y0 H locs ls hf hI hl
    unfold X7_led_J14 at hf
    obtain ⟨t14, et14, hf⟩ := obd hf
    refine tput hx hb hts hown hE hI 0 (by decide) q2100 rfl (tyX7_ok 0 (by decide)) rfl rfl rfl et14 dX7_led_14 (fun H locs hI => ?_)
    refine lv_aload_n hx hb dX7_led_17 rfl (lv_at hl 0 rfl) ?_
    refine tget hx hb hts hown hE hI 0 (by decide) q2100 rfl dX7_led_18 ?_
    refine lv_if_le (tgt := 26) hx hb dX7_led_21 (by decide) (fun hc => ?_) (fun hc => ?_)
    · replace hf := ipos hc hf
      refine lv_iconst (v := (0 : Int32)) hx hb dX7_led_26 (by decide) ?_
      refine lv_istore_n (lv' := [(3, .int (0 : Int32)), (0, .ref o), (1, .int a1), (2, .int a2)]) hx hb dX7_led_27 rfl hl (by decide) rfl (fun ls hl => ?_)
      refine lv_iconst (v := (-1 : Int32)) hx hb dX7_led_28 (by decide) ?_
      refine lv_istore (lv' := [(4, .int (-1 : Int32)), (3, .int (0 : Int32)), (0, .ref o), (1, .int a1), (2, .int a2)]) hx hb dX7_led_29 hl (by decide) rfl (fun ls hl => ?_)
      refine lv_aload_n hx hb dX7_led_31 rfl (lv_at hl 2 rfl) ?_
      refine tget hx hb hts hown hE hI 1 (by decide) q2101 rfl dX7_led_32 ?_
      refine lv_bipush (v := (9 : Int32)) hx hb dX7_led_35 (by decide) ?_
      refine taldc hx hb hE hI 1 781 9 rfl (by decide) (by decide) dX7_led_37 ?_
      refine lv_iconst (v := (1 : Int32)) hx hb dX7_led_38 (by decide) ?_
      refine lv_isub hx hb dX7_led_39 ?_
      obtain ⟨v40, ev40, hf⟩ := obd hf
      refine nmI ev40 ?_
      refine lv_istore (lv' := [(5, .int v40), (4, .int (-1 : Int32)), (3, .int (0 : Int32)), (0, .ref o), (1, .int a1), (2, .int a2)]) hx hb dX7_led_40 hl (by decide) rfl (fun ls hl => ?_)
      obtain ⟨e42, he42, hf⟩ := obd hf
      have hs42 : ∀ (τ : Mm) (c1 : Int32) (c2 : Int32), ∀ (w42 : Int32 × Int32 × Int32) (o42 : (Int32 × Int32 × Int32) ⊕ (Int32 × Int32)), X7_led_L42 τ c1 c2 w42 = some o42 → (∀ wx_, o42 = .inl wx_ → ∀ (H : Heap) (locs : List Loc) (ls : Array Slot), IT D cI cZ o s H locs τ → lv_has ls 6 [(0, .ref o), (1, .int c1), (2, .int c2), (3, .int wx_.1), (4, .int wx_.2.1), (5, .int wx_.2.2)] → W p l e ({ frames := 3, cells := 0, slots := 0, locals := 83 } : Room) s m args below meth c H locs 0 0 Q (F0 m 42 ls [])) → (∀ ex_, o42 = .inr ex_ → ∀ (H : Heap) (locs : List Loc) (ls : Array Slot), IT D cI cZ o s H locs τ → lv_has ls 6 [(2, .int c2), (3, .int ex_.1), (4, .int ex_.2)] → W p l e ({ frames := 3, cells := 0, slots := 0, locals := 83 } : Room) s m args below meth c H locs 0 0 Q (F0 m 79 ls [])) → ∀ (H : Heap) (locs : List Loc) (ls : Array Slot), IT D cI cZ o s H locs τ → lv_has ls 6 [(0, .ref o), (1, .int c1), (2, .int c2), (3, .int w42.1), (4, .int w42.2.1), (5, .int w42.2.2)] → W p l e ({ frames := 3, cells := 0, slots := 0, locals := 83 } : Room) s m args below meth c H locs 0 0 Q (F0 m 42 ls []) := by
        intro τ c1 c2 w42 o42 hf hk hq H locs ls hI hl
        unfold X7_led_L42 at hf
        refine lv_iload hx hb dX7_led_42 (lv_at hl 5 rfl) ?_
        refine lv_if_lt (tgt := 79) hx hb dX7_led_44 (by decide) (fun hc => ?_) (fun hc => ?_)
        · replace hf := ipos hc hf
          exact hq _ (Option.some.inj hf).symm H locs ls hI (lv_sub hl [2, 3, 4] rfl)
        · replace hf := ineg hc hf
          refine lv_aload_n hx hb dX7_led_47 rfl (lv_at hl 0 rfl) ?_
          refine lv_iload hx hb dX7_led_48 (lv_at hl 5 rfl) ?_
          refine lv_iconst (v := (1 : Int32)) hx hb dX7_led_50 (by decide) ?_
          obtain ⟨x51, ex51, hf⟩ := obd hf
          refine tcallI (rest := []) hx hb hts hown hE hz hI hml hl.1 (mX7_logged τ w42.2.2 (1 : Int32) _ ex51) (cwX7_logged hts ⟨Nat.le_of_ble_eq_true rfl, Nat.le_of_ble_eq_true rfl⟩) ⟨Nat.le_of_ble_eq_true rfl, Nat.le_of_ble_eq_true rfl⟩ rfl rfl (lv_room (Nat.le_of_ble_eq_true rfl)) dX7_led_51 (fun H locs hI => ?_)
          refine lv_iload_n hx hb dX7_led_54 rfl (lv_at hl 1 rfl) ?_
          refine lv_icmp_eq (tgt := 61) hx hb dX7_led_55 (by decide) (fun hc => ?_) (fun hc => ?_)
          · replace hf := ipos hc hf
            obtain ⟨v61, ev61, hf⟩ := obd hf
            refine lv_iinc (v := v61) (lv' := [(3, .int v61), (0, .ref o), (1, .int c1), (2, .int c2), (4, .int w42.2.1), (5, .int w42.2.2)]) hx hb dX7_led_61 hl (k := 3) rfl (iiE ev61 (by decide)) (by decide) rfl (fun ls hl => ?_)
            refine lv_aload_n hx hb dX7_led_64 rfl (lv_at hl 1 rfl) ?_
            refine lv_iload hx hb dX7_led_65 (lv_at hl 5 rfl) ?_
            refine lv_iconst (v := (0 : Int32)) hx hb dX7_led_67 (by decide) ?_
            obtain ⟨x68, ex68, hf⟩ := obd hf
            refine tcallI (rest := []) hx hb hts hown hE hz hI hml hl.1 (mX7_logged τ w42.2.2 (0 : Int32) _ ex68) (cwX7_logged hts ⟨Nat.le_of_ble_eq_true rfl, Nat.le_of_ble_eq_true rfl⟩) ⟨Nat.le_of_ble_eq_true rfl, Nat.le_of_ble_eq_true rfl⟩ rfl rfl (lv_room (Nat.le_of_ble_eq_true rfl)) dX7_led_68 (fun H locs hI => ?_)
            refine lv_istore (lv' := [(4, .int x68), (3, .int v61), (0, .ref o), (1, .int c1), (2, .int c2), (5, .int w42.2.2)]) hx hb dX7_led_71 hl (by decide) rfl (fun ls hl => ?_)
            obtain ⟨v73, ev73, hf⟩ := obd hf
            refine lv_iinc (v := v73) (lv' := [(5, .int v73), (4, .int x68), (3, .int v61), (0, .ref o), (1, .int c1), (2, .int c2)]) hx hb dX7_led_73 hl (k := 5) rfl (iiE ev73 (by decide)) (by decide) rfl (fun ls hl => ?_)
            refine lv_goto (tgt := 42) hx hb dX7_led_76 (by decide) ?_
            exact hk _ (Option.some.inj hf).symm H locs ls hI (lv_sub hl [3, 4, 5, 2, 1, 0] rfl)
          · replace hf := ineg hc hf
            refine lv_goto (tgt := 73) hx hb dX7_led_58 (by decide) ?_
            obtain ⟨v73_7, ev73_7, hf⟩ := obd hf
            refine lv_iinc (v := v73_7) (lv' := [(5, .int v73_7), (0, .ref o), (1, .int c1), (2, .int c2), (3, .int w42.1), (4, .int w42.2.1)]) hx hb dX7_led_73 hl (k := 5) rfl (iiE ev73_7 (by decide)) (by decide) rfl (fun ls hl => ?_)
            refine lv_goto (tgt := 42) hx hb dX7_led_76 (by decide) ?_
            exact hk _ (Option.some.inj hf).symm H locs ls hI (lv_sub hl [1, 2, 3, 4, 5, 0] rfl)
      refine loopO_W (Wat := fun w42 => ∀ (H : Heap) (locs : List Loc) (ls : Array Slot), IT D cI cZ o s H locs t14 → lv_has ls 6 [(0, .ref o), (1, .int a1), (2, .int a2), (3, .int w42.1), (4, .int w42.2.1), (5, .int w42.2.2)] → W p l e ({ frames := 3, cells := 0, slots := 0, locals := 83 } : Room) s m args below meth c H locs 0 0 Q (F0 m 42 ls [])) (Wex := fun ex_ => ∀ (H : Heap) (locs : List Loc) (ls : Array Slot), IT D cI cZ o s H locs t14 → lv_has ls 6 [(2, .int a2), (3, .int ex_.1), (4, .int ex_.2)] → W p l e ({ frames := 3, cells := 0, slots := 0, locals := 83 } : Room) s m args below meth c H locs 0 0 Q (F0 m 79 ls [])) (hs42 t14 a1 a2) FU _ e42 he42 ?_ H locs ls hI (lv_sub hl [3, 4, 5, 2, 1, 0] rfl)
      · skip
        intro H locs ls hI hl
        refine lv_iload_n hx hb dX7_led_79 rfl (lv_at hl 0 rfl) ?_
        refine lv_if_eq (tgt := 88) hx hb dX7_led_80 (by decide) (fun hc => ?_) (fun hc => ?_)
        · replace hf := ipos hc hf
          refine lv_iload_n hx hb dX7_led_88 rfl (lv_at hl 1 rfl) ?_
          have hf := Prod.mk.inj (Option.some.inj hf)
          rw [hf.1]
          exact hret H locs 89 ls (hf.2 ▸ hI) dX7_led_89
        · replace hf := ineg hc hf
          refine lv_iload hx hb dX7_led_83 (lv_at hl 2 rfl) ?_
          refine lv_goto (tgt := 89) hx hb dX7_led_85 (by decide) ?_
          have hf := Prod.mk.inj (Option.some.inj hf)
          rw [hf.1]
          exact hret H locs 89 ls (hf.2 ▸ hI) dX7_led_89
    · replace hf := ineg hc hf
      refine lv_iconst (v := (0 : Int32)) hx hb dX7_led_24 (by decide) ?_
      have hf := Prod.mk.inj (Option.some.inj hf)
      rw [hf.1]
      exact hret H locs 25 ls (hf.2 ▸ hI) dX7_led_25
  refine lv_aload_n hx hb dX7_led_0 rfl (lv_at hl 0 rfl) ?_
  refine lv_aload_n hx hb dX7_led_1 rfl (lv_at hl 0 rfl) ?_
  refine lv_iload_n hx hb dX7_led_2 rfl (lv_at hl 1 rfl) ?_
  obtain ⟨x3, ex3, hf⟩ := obd hf
  refine tcallI (rest := [.ref o]) hx hb hts hown hE hz hI hml hl.1 (mX7_isDeed τ a1 _ ex3) (cwX7_isDeed hts ⟨Nat.le_of_ble_eq_true rfl, Nat.le_of_ble_eq_true rfl⟩) ⟨Nat.le_of_ble_eq_true rfl, Nat.le_of_ble_eq_true rfl⟩ rfl rfl (lv_room (Nat.le_of_ble_eq_true rfl)) dX7_led_3 (fun H locs hI => ?_)
  refine lv_if_ne (tgt := 13) hx hb dX7_led_6 (by decide) (fun hc => ?_) (fun hc => ?_)
  · replace hf := ineg hc hf
    refine lv_iconst (v := (0 : Int32)) hx hb dX7_led_13 (by decide) ?_
    exact hJ14 τ (0 : Int32) H locs ls hf hI  (lv_sub hl [0, 1, 2] rfl)
  · replace hf := ipos hc hf
    refine lv_iconst (v := (1 : Int32)) hx hb dX7_led_9 (by decide) ?_
    refine lv_goto (tgt := 14) hx hb dX7_led_10 (by decide) ?_
    exact hJ14 τ (1 : Int32) H locs ls hf hI  (lv_sub hl [0, 1, 2] rfl)


def X7_log_J15 (τ : Mm) (a1 : Int32) (a2 : Int32) (y0 : Int32) : Option (Int32 × Mm) :=
  (some (mup τ 10 0 y0)).bind fun t15 =>
  if (t15 10 0) ≤ (0 : Int32) then
    (X7_isIn a1 (0 : Int32) ((t15 0 9) - (1 : Int32))).bind fun x38 =>
    if x38 = (0 : Int32) then
      some ((-1 : Int32), t15)
    else
      (X7_logged t15 a1 a2).bind fun x47 =>
      some (x47, t15)
  else
    some ((0 : Int32), t15)
def X7_log (τ : Mm) (a1 : Int32) (a2 : Int32) : Option (Int32 × Mm) :=
  (X7_isIn a2 (0 : Int32) (3 : Int32)).bind fun x4 =>
  if x4 = (0 : Int32) then
    X7_log_J15 τ a1 a2 (1 : Int32)
  else
    X7_log_J15 τ a1 a2 (0 : Int32)
set_option maxHeartbeats 4000000 in
theorem mX7_log (τ : Mm) (a1 : Int32) (a2 : Int32) (r : Int32) (τ' : Mm) (hf : X7_log τ a1 a2 = some (r, τ')) : TMi yX7_log cX7_log 3 (some .int) 2 62 (fun aK => [.int a1, .int a2]) r τ τ' := by
  refine TMi.of (by decide) rfl (fun _ _ => Nat.le_of_ble_eq_true rfl) ?_
  intro p l e s m args below meth c D cI cZ o z aK aV Q ls hz hx hb hml hown hts hE hret hI hl
  obtain ⟨H, eH⟩ : ∃ H, H = s.heap := ⟨_, rfl⟩
  obtain ⟨locs, eL⟩ : ∃ L : List Loc, L = [] := ⟨_, rfl⟩
  rw [← eH, ← eL] at hI ⊢
  have hl : lv_has ls 3 [(0, .ref o), (1, .int a1), (2, .int a2)] := hl
  unfold X7_log at hf
  have hJ15 : ∀ (τ : Mm) (y0 : Int32) (H : Heap) (locs : List Loc) (ls : Array Slot), X7_log_J15 τ a1 a2 y0 = some (r, τ') → IT D cI cZ o s H locs τ → lv_has ls 3 [(0, .ref o), (1, .int a1), (2, .int a2)] → W p l e ({ frames := 2, cells := 0, slots := 0, locals := 62 } : Room) s m args below meth c H locs 0 0 Q (F0 m 15 ls [.int y0, .ref o]) := by
    intro τ y0 H locs ls hf hI hl
    unfold X7_log_J15 at hf
    obtain ⟨t15, et15, hf⟩ := obd hf
    refine tput hx hb hts hown hE hI 0 (by decide) q2100 rfl (tyX7_ok 0 (by decide)) rfl rfl rfl et15 dX7_log_15 (fun H locs hI => ?_)
    refine lv_aload_n hx hb dX7_log_18 rfl (lv_at hl 0 rfl) ?_
    refine tget hx hb hts hown hE hI 0 (by decide) q2100 rfl dX7_log_19 ?_
    refine lv_if_le (tgt := 27) hx hb dX7_log_22 (by decide) (fun hc => ?_) (fun hc => ?_)
    · replace hf := ipos hc hf
      refine lv_iload_n hx hb dX7_log_27 rfl (lv_at hl 1 rfl) ?_
      refine lv_iconst (v := (0 : Int32)) hx hb dX7_log_28 (by decide) ?_
      refine lv_aload_n hx hb dX7_log_29 rfl (lv_at hl 0 rfl) ?_
      refine tget hx hb hts hown hE hI 1 (by decide) q2101 rfl dX7_log_30 ?_
      refine lv_bipush (v := (9 : Int32)) hx hb dX7_log_33 (by decide) ?_
      refine taldc hx hb hE hI 1 781 9 rfl (by decide) (by decide) dX7_log_35 ?_
      refine lv_iconst (v := (1 : Int32)) hx hb dX7_log_36 (by decide) ?_
      refine lv_isub hx hb dX7_log_37 ?_
      obtain ⟨x38, ex38, hf⟩ := obd hf
      refine tcallS (rest := []) hx hb hts hown hml hl.1 (mX7_isIn a1 (0 : Int32) ((t15 0 9) - (1 : Int32)) _ ex38) (cwX7_isIn hts ⟨Nat.le_of_ble_eq_true rfl, Nat.le_of_ble_eq_true rfl⟩) ⟨Nat.le_of_ble_eq_true rfl, Nat.le_of_ble_eq_true rfl⟩ rfl rfl (lv_room (Nat.le_of_ble_eq_true rfl)) dX7_log_38 ?_
      refine lv_if_eq (tgt := 53) hx hb dX7_log_41 (by decide) (fun hc => ?_) (fun hc => ?_)
      · replace hf := ipos hc hf
        refine lv_iconst (v := (-1 : Int32)) hx hb dX7_log_53 (by decide) ?_
        have hf := Prod.mk.inj (Option.some.inj hf)
        rw [hf.1]
        exact hret H locs 54 ls (hf.2 ▸ hI) dX7_log_54
      · replace hf := ineg hc hf
        refine lv_aload_n hx hb dX7_log_44 rfl (lv_at hl 0 rfl) ?_
        refine lv_iload_n hx hb dX7_log_45 rfl (lv_at hl 1 rfl) ?_
        refine lv_iload_n hx hb dX7_log_46 rfl (lv_at hl 2 rfl) ?_
        obtain ⟨x47, ex47, hf⟩ := obd hf
        refine tcallI (rest := []) hx hb hts hown hE hz hI hml hl.1 (mX7_logged t15 a1 a2 _ ex47) (cwX7_logged hts ⟨Nat.le_of_ble_eq_true rfl, Nat.le_of_ble_eq_true rfl⟩) ⟨Nat.le_of_ble_eq_true rfl, Nat.le_of_ble_eq_true rfl⟩ rfl rfl (lv_room (Nat.le_of_ble_eq_true rfl)) dX7_log_47 (fun H locs hI => ?_)
        refine lv_goto (tgt := 54) hx hb dX7_log_50 (by decide) ?_
        have hf := Prod.mk.inj (Option.some.inj hf)
        rw [hf.1]
        exact hret H locs 54 ls (hf.2 ▸ hI) dX7_log_54
    · replace hf := ineg hc hf
      refine lv_iconst (v := (0 : Int32)) hx hb dX7_log_25 (by decide) ?_
      have hf := Prod.mk.inj (Option.some.inj hf)
      rw [hf.1]
      exact hret H locs 26 ls (hf.2 ▸ hI) dX7_log_26
  refine lv_aload_n hx hb dX7_log_0 rfl (lv_at hl 0 rfl) ?_
  refine lv_iload_n hx hb dX7_log_1 rfl (lv_at hl 2 rfl) ?_
  refine lv_iconst (v := (0 : Int32)) hx hb dX7_log_2 (by decide) ?_
  refine lv_iconst (v := (3 : Int32)) hx hb dX7_log_3 (by decide) ?_
  obtain ⟨x4, ex4, hf⟩ := obd hf
  refine tcallS (rest := [.ref o]) hx hb hts hown hml hl.1 (mX7_isIn a2 (0 : Int32) (3 : Int32) _ ex4) (cwX7_isIn hts ⟨Nat.le_of_ble_eq_true rfl, Nat.le_of_ble_eq_true rfl⟩) ⟨Nat.le_of_ble_eq_true rfl, Nat.le_of_ble_eq_true rfl⟩ rfl rfl (lv_room (Nat.le_of_ble_eq_true rfl)) dX7_log_4 ?_
  refine lv_if_ne (tgt := 14) hx hb dX7_log_7 (by decide) (fun hc => ?_) (fun hc => ?_)
  · replace hf := ineg hc hf
    refine lv_iconst (v := (0 : Int32)) hx hb dX7_log_14 (by decide) ?_
    exact hJ15 τ (0 : Int32) H locs ls hf hI  (lv_sub hl [0, 1, 2] rfl)
  · replace hf := ipos hc hf
    refine lv_iconst (v := (1 : Int32)) hx hb dX7_log_10 (by decide) ?_
    refine lv_goto (tgt := 15) hx hb dX7_log_11 (by decide) ?_
    exact hJ15 τ (1 : Int32) H locs ls hf hI  (lv_sub hl [0, 1, 2] rfl)


def X7_damp_J15 (τ : Mm) (a1 : Int32) (y0 : Int32) : Option (Int32 × Mm) :=
  (some (mup τ 10 0 y0)).bind fun t15 =>
  if (t15 10 0) ≤ (0 : Int32) then
    (ld 781 (t15 0) ((11 : Int32) + a1)).bind fun x37 =>
    some (x37, t15)
  else
    some ((0 : Int32), t15)
def X7_damp (τ : Mm) (a1 : Int32) : Option (Int32 × Mm) :=
  (X7_isIn a1 (0 : Int32) (3 : Int32)).bind fun x4 =>
  if x4 = (0 : Int32) then
    X7_damp_J15 τ a1 (1 : Int32)
  else
    X7_damp_J15 τ a1 (0 : Int32)
set_option maxHeartbeats 4000000 in
theorem mX7_damp (τ : Mm) (a1 : Int32) (r : Int32) (τ' : Mm) (hf : X7_damp τ a1 = some (r, τ')) : TMi yX7_damp cX7_damp 2 (some .int) 2 62 (fun aK => [.int a1]) r τ τ' := by
  refine TMi.of (by decide) rfl (fun _ _ => Nat.le_of_ble_eq_true rfl) ?_
  intro p l e s m args below meth c D cI cZ o z aK aV Q ls hz hx hb hml hown hts hE hret hI hl
  obtain ⟨H, eH⟩ : ∃ H, H = s.heap := ⟨_, rfl⟩
  obtain ⟨locs, eL⟩ : ∃ L : List Loc, L = [] := ⟨_, rfl⟩
  rw [← eH, ← eL] at hI ⊢
  have hl : lv_has ls 2 [(0, .ref o), (1, .int a1)] := hl
  unfold X7_damp at hf
  have hJ15 : ∀ (τ : Mm) (y0 : Int32) (H : Heap) (locs : List Loc) (ls : Array Slot), X7_damp_J15 τ a1 y0 = some (r, τ') → IT D cI cZ o s H locs τ → lv_has ls 2 [(0, .ref o), (1, .int a1)] → W p l e ({ frames := 2, cells := 0, slots := 0, locals := 62 } : Room) s m args below meth c H locs 0 0 Q (F0 m 15 ls [.int y0, .ref o]) := by
    intro τ y0 H locs ls hf hI hl
    unfold X7_damp_J15 at hf
    obtain ⟨t15, et15, hf⟩ := obd hf
    refine tput hx hb hts hown hE hI 0 (by decide) q2100 rfl (tyX7_ok 0 (by decide)) rfl rfl rfl et15 dX7_damp_15 (fun H locs hI => ?_)
    refine lv_aload_n hx hb dX7_damp_18 rfl (lv_at hl 0 rfl) ?_
    refine tget hx hb hts hown hE hI 0 (by decide) q2100 rfl dX7_damp_19 ?_
    refine lv_if_le (tgt := 29) hx hb dX7_damp_22 (by decide) (fun hc => ?_) (fun hc => ?_)
    · replace hf := ipos hc hf
      refine lv_aload_n hx hb dX7_damp_29 rfl (lv_at hl 0 rfl) ?_
      refine tget hx hb hts hown hE hI 1 (by decide) q2101 rfl dX7_damp_30 ?_
      refine lv_bipush (v := (11 : Int32)) hx hb dX7_damp_33 (by decide) ?_
      refine lv_iload_n hx hb dX7_damp_35 rfl (lv_at hl 1 rfl) ?_
      refine lv_iadd hx hb dX7_damp_36 ?_
      obtain ⟨x37, ex37, hf⟩ := obd hf
      refine tald hx hb hE hI 1 781 rfl ex37 dX7_damp_37 ?_
      have hf := Prod.mk.inj (Option.some.inj hf)
      rw [hf.1]
      exact hret H locs 38 ls (hf.2 ▸ hI) dX7_damp_38
    · replace hf := ineg hc hf
      refine lv_iconst (v := (0 : Int32)) hx hb dX7_damp_25 (by decide) ?_
      refine lv_goto (tgt := 38) hx hb dX7_damp_26 (by decide) ?_
      have hf := Prod.mk.inj (Option.some.inj hf)
      rw [hf.1]
      exact hret H locs 38 ls (hf.2 ▸ hI) dX7_damp_38
  refine lv_aload_n hx hb dX7_damp_0 rfl (lv_at hl 0 rfl) ?_
  refine lv_iload_n hx hb dX7_damp_1 rfl (lv_at hl 1 rfl) ?_
  refine lv_iconst (v := (0 : Int32)) hx hb dX7_damp_2 (by decide) ?_
  refine lv_iconst (v := (3 : Int32)) hx hb dX7_damp_3 (by decide) ?_
  obtain ⟨x4, ex4, hf⟩ := obd hf
  refine tcallS (rest := [.ref o]) hx hb hts hown hml hl.1 (mX7_isIn a1 (0 : Int32) (3 : Int32) _ ex4) (cwX7_isIn hts ⟨Nat.le_of_ble_eq_true rfl, Nat.le_of_ble_eq_true rfl⟩) ⟨Nat.le_of_ble_eq_true rfl, Nat.le_of_ble_eq_true rfl⟩ rfl rfl (lv_room (Nat.le_of_ble_eq_true rfl)) dX7_damp_4 ?_
  refine lv_if_ne (tgt := 14) hx hb dX7_damp_7 (by decide) (fun hc => ?_) (fun hc => ?_)
  · replace hf := ineg hc hf
    refine lv_iconst (v := (0 : Int32)) hx hb dX7_damp_14 (by decide) ?_
    exact hJ15 τ (0 : Int32) H locs ls hf hI  (lv_sub hl [0, 1] rfl)
  · replace hf := ipos hc hf
    refine lv_iconst (v := (1 : Int32)) hx hb dX7_damp_10 (by decide) ?_
    refine lv_goto (tgt := 15) hx hb dX7_damp_11 (by decide) ?_
    exact hJ15 τ (1 : Int32) H locs ls hf hI  (lv_sub hl [0, 1] rfl)


def X7_seed (τ : Mm) (a1 : Int32) : Option (Int32 × Mm) :=
  (some (mup τ 10 0 (0 : Int32))).bind fun t2 =>
  (some (t2 0 10)).bind fun v12 =>
  (sto 781 t2 0 (10 : Int32) a1).bind fun t20 =>
  some (v12, t20)
set_option maxHeartbeats 4000000 in
theorem mX7_seed (τ : Mm) (a1 : Int32) (r : Int32) (τ' : Mm) (hf : X7_seed τ a1 = some (r, τ')) : TMi yX7_seed cX7_seed 3 (some .int) 1 40 (fun aK => [.int a1]) r τ τ' := by
  refine TMi.of (by decide) rfl (fun _ _ => Nat.le_of_ble_eq_true rfl) ?_
  intro p l e s m args below meth c D cI cZ o z aK aV Q ls hz hx hb hml hown hts hE hret hI hl
  obtain ⟨H, eH⟩ : ∃ H, H = s.heap := ⟨_, rfl⟩
  obtain ⟨locs, eL⟩ : ∃ L : List Loc, L = [] := ⟨_, rfl⟩
  rw [← eH, ← eL] at hI ⊢
  have hl : lv_has ls 3 [(0, .ref o), (1, .int a1)] := hl
  unfold X7_seed at hf
  refine lv_aload_n hx hb dX7_seed_0 rfl (lv_at hl 0 rfl) ?_
  refine lv_iconst (v := (0 : Int32)) hx hb dX7_seed_1 (by decide) ?_
  obtain ⟨t2, et2, hf⟩ := obd hf
  refine tput hx hb hts hown hE hI 0 (by decide) q2100 rfl (tyX7_ok 0 (by decide)) rfl rfl rfl et2 dX7_seed_2 (fun H locs hI => ?_)
  refine lv_aload_n hx hb dX7_seed_5 rfl (lv_at hl 0 rfl) ?_
  refine tget hx hb hts hown hE hI 1 (by decide) q2101 rfl dX7_seed_6 ?_
  refine lv_bipush (v := (10 : Int32)) hx hb dX7_seed_9 (by decide) ?_
  refine taldc hx hb hE hI 1 781 10 rfl (by decide) (by decide) dX7_seed_11 ?_
  obtain ⟨v12, ev12, hf⟩ := obd hf
  refine nmI ev12 ?_
  refine lv_istore_n (lv' := [(2, .int v12), (0, .ref o), (1, .int a1)]) hx hb dX7_seed_12 rfl hl (by decide) rfl (fun ls hl => ?_)
  refine lv_aload_n hx hb dX7_seed_13 rfl (lv_at hl 1 rfl) ?_
  refine tget hx hb hts hown hE hI 1 (by decide) q2101 rfl dX7_seed_14 ?_
  refine lv_bipush (v := (10 : Int32)) hx hb dX7_seed_17 (by decide) ?_
  refine lv_iload_n hx hb dX7_seed_19 rfl (lv_at hl 2 rfl) ?_
  obtain ⟨t20, et20, hf⟩ := obd hf
  refine tast hx hb hE hI 1 781 0 rfl (fun _ => rfl) et20 dX7_seed_20 (fun H locs hI => ?_)
  refine lv_iload_n hx hb dX7_seed_21 rfl (lv_at hl 0 rfl) ?_
  have hf := Prod.mk.inj (Option.some.inj hf)
  rw [hf.1]
  exact hret H locs 22 ls (hf.2 ▸ hI) dX7_seed_22


def X7_undo_L26 (w26 : Mm × Int32) : Option ((Mm × Int32) ⊕ (Mm)) :=
  if (381 : Int32) ≤ w26.2 then
    some (.inr w26.1)
  else
    (ld 4572 (w26.1 3) (((381 : Int32) * (w26.1 10 6)) + w26.2)).bind fun x52 =>
    (sto 781 w26.1 0 w26.2 x52).bind fun t53 =>
    (some (w26.2 + (1 : Int32))).bind fun v54 =>
    some (.inl (t53, v54))
def X7_undo (τ : Mm) : Option (Int32 × Mm) :=
  (some (mup τ 10 0 (0 : Int32))).bind fun t2 =>
  if (t2 10 6) = (0 : Int32) then
    some ((0 : Int32), t2)
  else
    (some (mup t2 10 6 ((t2 10 6) - (1 : Int32)))).bind fun t21 =>
    (loopO (X7_undo_L26) FU (t21, (0 : Int32))).bind fun e26 =>
    some ((1 : Int32), e26)
set_option maxHeartbeats 4000000 in
theorem mX7_undo (τ : Mm) (r : Int32) (τ' : Mm) (hf : X7_undo τ = some (r, τ')) : TMi yX7_undo cX7_undo 2 (some .boolean) 1 40 (fun aK => []) r τ τ' := by
  refine TMz.of (by decide) rfl (fun _ _ => Nat.le_of_ble_eq_true rfl) ?_
  intro p l e s m args below meth c D cI cZ o z aK aV Q ls hz hx hb hml hown hts hE hret hI hl
  obtain ⟨H, eH⟩ : ∃ H, H = s.heap := ⟨_, rfl⟩
  obtain ⟨locs, eL⟩ : ∃ L : List Loc, L = [] := ⟨_, rfl⟩
  rw [← eH, ← eL] at hI ⊢
  have hl : lv_has ls 2 [(0, .ref o)] := hl
  unfold X7_undo at hf
  refine lv_aload_n hx hb dX7_undo_0 rfl (lv_at hl 0 rfl) ?_
  refine lv_iconst (v := (0 : Int32)) hx hb dX7_undo_1 (by decide) ?_
  obtain ⟨t2, et2, hf⟩ := obd hf
  refine tput hx hb hts hown hE hI 0 (by decide) q2100 rfl (tyX7_ok 0 (by decide)) rfl rfl rfl et2 dX7_undo_2 (fun H locs hI => ?_)
  refine lv_aload_n hx hb dX7_undo_5 rfl (lv_at hl 0 rfl) ?_
  refine tget hx hb hts hown hE hI 6 (by decide) q2106 rfl dX7_undo_6 ?_
  refine lv_if_ne (tgt := 14) hx hb dX7_undo_9 (by decide) (fun hc => ?_) (fun hc => ?_)
  · replace hf := ineg hc hf
    refine lv_aload_n hx hb dX7_undo_14 rfl (lv_at hl 0 rfl) ?_
    refine lv_dup hx hb dX7_undo_15 rfl ?_
    refine tget hx hb hts hown hE hI 6 (by decide) q2106 rfl dX7_undo_16 ?_
    refine lv_iconst (v := (1 : Int32)) hx hb dX7_undo_19 (by decide) ?_
    refine lv_isub hx hb dX7_undo_20 ?_
    obtain ⟨t21, et21, hf⟩ := obd hf
    refine tput hx hb hts hown hE hI 6 (by decide) q2106 rfl (tyX7_ok 6 (by decide)) rfl rfl rfl et21 dX7_undo_21 (fun H locs hI => ?_)
    refine lv_iconst (v := (0 : Int32)) hx hb dX7_undo_24 (by decide) ?_
    refine lv_istore_n (lv' := [(1, .int (0 : Int32)), (0, .ref o)]) hx hb dX7_undo_25 rfl hl (by decide) rfl (fun ls hl => ?_)
    obtain ⟨e26, he26, hf⟩ := obd hf
    refine loopO_W (Wat := fun w26 => ∀ (H : Heap) (locs : List Loc) (ls : Array Slot), IT D cI cZ o s H locs w26.1 → lv_has ls 2 [(0, .ref o), (1, .int w26.2)] → W p l e ({ frames := 1, cells := 0, slots := 0, locals := 40 } : Room) s m args below meth c H locs 0 0 Q (F0 m 26 ls [])) (Wex := fun ex_ => ∀ (H : Heap) (locs : List Loc) (ls : Array Slot), IT D cI cZ o s H locs ex_ → lv_has ls 2 [] → W p l e ({ frames := 1, cells := 0, slots := 0, locals := 40 } : Room) s m args below meth c H locs 0 0 Q (F0 m 60 ls [])) (fun w26 o26 hf hk hq => ?_) FU _ e26 he26 ?_ H locs ls hI (lv_sub hl [1, 0] rfl)
    · intro H locs ls hI hl
      unfold X7_undo_L26 at hf
      refine lv_iload_n hx hb dX7_undo_26 rfl (lv_at hl 1 rfl) ?_
      refine lv_sipush (v := (381 : Int32)) hx hb dX7_undo_27 (by decide) ?_
      refine lv_icmp_ge (tgt := 60) hx hb dX7_undo_30 (by decide) (fun hc => ?_) (fun hc => ?_)
      · replace hf := ipos hc hf
        exact hq _ (Option.some.inj hf).symm H locs ls hI (lv_sub hl [] rfl)
      · replace hf := ineg hc hf
        refine lv_aload_n hx hb dX7_undo_33 rfl (lv_at hl 0 rfl) ?_
        refine tget hx hb hts hown hE hI 1 (by decide) q2101 rfl dX7_undo_34 ?_
        refine lv_iload_n hx hb dX7_undo_37 rfl (lv_at hl 1 rfl) ?_
        refine lv_aload_n hx hb dX7_undo_38 rfl (lv_at hl 0 rfl) ?_
        refine tget hx hb hts hown hE hI 5 (by decide) q2105 rfl dX7_undo_39 ?_
        refine lv_sipush (v := (381 : Int32)) hx hb dX7_undo_42 (by decide) ?_
        refine lv_aload_n hx hb dX7_undo_45 rfl (lv_at hl 0 rfl) ?_
        refine tget hx hb hts hown hE hI 6 (by decide) q2106 rfl dX7_undo_46 ?_
        refine lv_imul hx hb dX7_undo_49 ?_
        refine lv_iload_n hx hb dX7_undo_50 rfl (lv_at hl 1 rfl) ?_
        refine lv_iadd hx hb dX7_undo_51 ?_
        obtain ⟨x52, ex52, hf⟩ := obd hf
        refine tald hx hb hE hI 4 4572 rfl ex52 dX7_undo_52 ?_
        obtain ⟨t53, et53, hf⟩ := obd hf
        refine tast hx hb hE hI 1 781 0 rfl (fun _ => rfl) et53 dX7_undo_53 (fun H locs hI => ?_)
        obtain ⟨v54, ev54, hf⟩ := obd hf
        refine lv_iinc (v := v54) (lv' := [(1, .int v54), (0, .ref o)]) hx hb dX7_undo_54 hl (k := 1) rfl (iiE ev54 (by decide)) (by decide) rfl (fun ls hl => ?_)
        refine lv_goto (tgt := 26) hx hb dX7_undo_57 (by decide) ?_
        exact hk _ (Option.some.inj hf).symm H locs ls hI (lv_sub hl [1, 0] rfl)
    · skip
      intro H locs ls hI hl
      refine lv_iconst (v := (1 : Int32)) hx hb dX7_undo_60 (by decide) ?_
      have hf := Prod.mk.inj (Option.some.inj hf)
      rw [hf.1]
      exact hret H locs 61 ls (hf.2 ▸ hI) (hf.1 ▸ (by decide)) dX7_undo_61
  · replace hf := ipos hc hf
    refine lv_iconst (v := (0 : Int32)) hx hb dX7_undo_12 (by decide) ?_
    have hf := Prod.mk.inj (Option.some.inj hf)
    rw [hf.1]
    exact hret H locs 13 ls (hf.2 ▸ hI) (hf.1 ▸ (by decide)) dX7_undo_13


def X7_image_L7 (w7 : Mm × Int32) : Option ((Mm × Int32) ⊕ (Mm)) :=
  if (781 : Int32) ≤ w7.2 then
    some (.inr w7.1)
  else
    (ld 781 (w7.1 0) w7.2).bind fun x24 =>
    (sto 781 w7.1 1 w7.2 x24).bind fun t25 =>
    (some (w7.2 + (1 : Int32))).bind fun v26 =>
    some (.inl (t25, v26))
def X7_image (τ : Mm) : Option (Mm) :=
  (some (mup τ 10 0 (0 : Int32))).bind fun t2 =>
  (loopO (X7_image_L7) FU (t2, (0 : Int32))).bind fun e7 =>
  (some (mup e7 10 3 (1 : Int32))).bind fun t34 =>
  some t34
set_option maxHeartbeats 4000000 in
theorem mX7_image (τ : Mm) (τ' : Mm) (hf : X7_image τ = some τ') : TMv yX7_image cX7_image 2 none 1 40 (fun aK => []) τ τ' := by
  refine TMv.of (by decide) rfl (fun _ _ => Nat.le_of_ble_eq_true rfl) ?_
  intro p l e s m args below meth c D cI cZ o z aK aV Q ls hz hx hb hml hown hts hE hret hI hl
  obtain ⟨H, eH⟩ : ∃ H, H = s.heap := ⟨_, rfl⟩
  obtain ⟨locs, eL⟩ : ∃ L : List Loc, L = [] := ⟨_, rfl⟩
  rw [← eH, ← eL] at hI ⊢
  have hl : lv_has ls 2 [(0, .ref o)] := hl
  unfold X7_image at hf
  refine lv_aload_n hx hb dX7_image_0 rfl (lv_at hl 0 rfl) ?_
  refine lv_iconst (v := (0 : Int32)) hx hb dX7_image_1 (by decide) ?_
  obtain ⟨t2, et2, hf⟩ := obd hf
  refine tput hx hb hts hown hE hI 0 (by decide) q2100 rfl (tyX7_ok 0 (by decide)) rfl rfl rfl et2 dX7_image_2 (fun H locs hI => ?_)
  refine lv_iconst (v := (0 : Int32)) hx hb dX7_image_5 (by decide) ?_
  refine lv_istore_n (lv' := [(1, .int (0 : Int32)), (0, .ref o)]) hx hb dX7_image_6 rfl hl (by decide) rfl (fun ls hl => ?_)
  obtain ⟨e7, he7, hf⟩ := obd hf
  refine loopO_W (Wat := fun w7 => ∀ (H : Heap) (locs : List Loc) (ls : Array Slot), IT D cI cZ o s H locs w7.1 → lv_has ls 2 [(0, .ref o), (1, .int w7.2)] → W p l e ({ frames := 1, cells := 0, slots := 0, locals := 40 } : Room) s m args below meth c H locs 0 0 Q (F0 m 7 ls [])) (Wex := fun ex_ => ∀ (H : Heap) (locs : List Loc) (ls : Array Slot), IT D cI cZ o s H locs ex_ → lv_has ls 2 [(0, .ref o)] → W p l e ({ frames := 1, cells := 0, slots := 0, locals := 40 } : Room) s m args below meth c H locs 0 0 Q (F0 m 32 ls [])) (fun w7 o7 hf hk hq => ?_) FU _ e7 he7 ?_ H locs ls hI (lv_sub hl [1, 0] rfl)
  · intro H locs ls hI hl
    unfold X7_image_L7 at hf
    refine lv_iload_n hx hb dX7_image_7 rfl (lv_at hl 1 rfl) ?_
    refine lv_sipush (v := (781 : Int32)) hx hb dX7_image_8 (by decide) ?_
    refine lv_icmp_ge (tgt := 32) hx hb dX7_image_11 (by decide) (fun hc => ?_) (fun hc => ?_)
    · replace hf := ipos hc hf
      exact hq _ (Option.some.inj hf).symm H locs ls hI (lv_sub hl [0] rfl)
    · replace hf := ineg hc hf
      refine lv_aload_n hx hb dX7_image_14 rfl (lv_at hl 0 rfl) ?_
      refine tget hx hb hts hown hE hI 2 (by decide) q2102 rfl dX7_image_15 ?_
      refine lv_iload_n hx hb dX7_image_18 rfl (lv_at hl 1 rfl) ?_
      refine lv_aload_n hx hb dX7_image_19 rfl (lv_at hl 0 rfl) ?_
      refine tget hx hb hts hown hE hI 1 (by decide) q2101 rfl dX7_image_20 ?_
      refine lv_iload_n hx hb dX7_image_23 rfl (lv_at hl 1 rfl) ?_
      obtain ⟨x24, ex24, hf⟩ := obd hf
      refine tald hx hb hE hI 1 781 rfl ex24 dX7_image_24 ?_
      obtain ⟨t25, et25, hf⟩ := obd hf
      refine tast hx hb hE hI 2 781 1 rfl (fun _ => rfl) et25 dX7_image_25 (fun H locs hI => ?_)
      obtain ⟨v26, ev26, hf⟩ := obd hf
      refine lv_iinc (v := v26) (lv' := [(1, .int v26), (0, .ref o)]) hx hb dX7_image_26 hl (k := 1) rfl (iiE ev26 (by decide)) (by decide) rfl (fun ls hl => ?_)
      refine lv_goto (tgt := 7) hx hb dX7_image_29 (by decide) ?_
      exact hk _ (Option.some.inj hf).symm H locs ls hI (lv_sub hl [1, 0] rfl)
  · skip
    intro H locs ls hI hl
    refine lv_aload_n hx hb dX7_image_32 rfl (lv_at hl 0 rfl) ?_
    refine lv_iconst (v := (1 : Int32)) hx hb dX7_image_33 (by decide) ?_
    obtain ⟨t34, et34, hf⟩ := obd hf
    refine tput hx hb hts hown hE hI 3 (by decide) q2103 rfl (tyX7_ok 3 (by decide)) (zb_n (by decide)) (zb_f (by decide)) rfl et34 dX7_image_34 (fun H locs hI => ?_)
    exact hret H locs 37 ls ((Option.some.inj hf) ▸ hI) dX7_image_37


def X7_back_L16 (w16 : Mm × Int32) : Option ((Mm × Int32) ⊕ (Mm)) :=
  if (781 : Int32) ≤ w16.2 then
    some (.inr w16.1)
  else
    (ld 781 (w16.1 1) w16.2).bind fun x33 =>
    (sto 781 w16.1 0 w16.2 x33).bind fun t34 =>
    (some (w16.2 + (1 : Int32))).bind fun v35 =>
    some (.inl (t34, v35))
def X7_back (τ : Mm) : Option (Int32 × Mm) :=
  (some (mup τ 10 0 (0 : Int32))).bind fun t2 =>
  if (t2 10 3) = (0 : Int32) then
    some ((0 : Int32), t2)
  else
    (loopO (X7_back_L16) FU (t2, (0 : Int32))).bind fun e16 =>
    (some (mup e16 10 6 (0 : Int32))).bind fun t43 =>
    some ((1 : Int32), t43)
set_option maxHeartbeats 4000000 in
theorem mX7_back (τ : Mm) (r : Int32) (τ' : Mm) (hf : X7_back τ = some (r, τ')) : TMi yX7_back cX7_back 2 (some .boolean) 1 40 (fun aK => []) r τ τ' := by
  refine TMz.of (by decide) rfl (fun _ _ => Nat.le_of_ble_eq_true rfl) ?_
  intro p l e s m args below meth c D cI cZ o z aK aV Q ls hz hx hb hml hown hts hE hret hI hl
  obtain ⟨H, eH⟩ : ∃ H, H = s.heap := ⟨_, rfl⟩
  obtain ⟨locs, eL⟩ : ∃ L : List Loc, L = [] := ⟨_, rfl⟩
  rw [← eH, ← eL] at hI ⊢
  have hl : lv_has ls 2 [(0, .ref o)] := hl
  unfold X7_back at hf
  refine lv_aload_n hx hb dX7_back_0 rfl (lv_at hl 0 rfl) ?_
  refine lv_iconst (v := (0 : Int32)) hx hb dX7_back_1 (by decide) ?_
  obtain ⟨t2, et2, hf⟩ := obd hf
  refine tput hx hb hts hown hE hI 0 (by decide) q2100 rfl (tyX7_ok 0 (by decide)) rfl rfl rfl et2 dX7_back_2 (fun H locs hI => ?_)
  refine lv_aload_n hx hb dX7_back_5 rfl (lv_at hl 0 rfl) ?_
  refine tget hx hb hts hown hE hI 3 (by decide) q2103 rfl dX7_back_6 ?_
  refine lv_if_ne (tgt := 14) hx hb dX7_back_9 (by decide) (fun hc => ?_) (fun hc => ?_)
  · replace hf := ineg hc hf
    refine lv_iconst (v := (0 : Int32)) hx hb dX7_back_14 (by decide) ?_
    refine lv_istore_n (lv' := [(1, .int (0 : Int32)), (0, .ref o)]) hx hb dX7_back_15 rfl hl (by decide) rfl (fun ls hl => ?_)
    obtain ⟨e16, he16, hf⟩ := obd hf
    refine loopO_W (Wat := fun w16 => ∀ (H : Heap) (locs : List Loc) (ls : Array Slot), IT D cI cZ o s H locs w16.1 → lv_has ls 2 [(0, .ref o), (1, .int w16.2)] → W p l e ({ frames := 1, cells := 0, slots := 0, locals := 40 } : Room) s m args below meth c H locs 0 0 Q (F0 m 16 ls [])) (Wex := fun ex_ => ∀ (H : Heap) (locs : List Loc) (ls : Array Slot), IT D cI cZ o s H locs ex_ → lv_has ls 2 [(0, .ref o)] → W p l e ({ frames := 1, cells := 0, slots := 0, locals := 40 } : Room) s m args below meth c H locs 0 0 Q (F0 m 41 ls [])) (fun w16 o16 hf hk hq => ?_) FU _ e16 he16 ?_ H locs ls hI (lv_sub hl [1, 0] rfl)
    · intro H locs ls hI hl
      unfold X7_back_L16 at hf
      refine lv_iload_n hx hb dX7_back_16 rfl (lv_at hl 1 rfl) ?_
      refine lv_sipush (v := (781 : Int32)) hx hb dX7_back_17 (by decide) ?_
      refine lv_icmp_ge (tgt := 41) hx hb dX7_back_20 (by decide) (fun hc => ?_) (fun hc => ?_)
      · replace hf := ipos hc hf
        exact hq _ (Option.some.inj hf).symm H locs ls hI (lv_sub hl [0] rfl)
      · replace hf := ineg hc hf
        refine lv_aload_n hx hb dX7_back_23 rfl (lv_at hl 0 rfl) ?_
        refine tget hx hb hts hown hE hI 1 (by decide) q2101 rfl dX7_back_24 ?_
        refine lv_iload_n hx hb dX7_back_27 rfl (lv_at hl 1 rfl) ?_
        refine lv_aload_n hx hb dX7_back_28 rfl (lv_at hl 0 rfl) ?_
        refine tget hx hb hts hown hE hI 2 (by decide) q2102 rfl dX7_back_29 ?_
        refine lv_iload_n hx hb dX7_back_32 rfl (lv_at hl 1 rfl) ?_
        obtain ⟨x33, ex33, hf⟩ := obd hf
        refine tald hx hb hE hI 2 781 rfl ex33 dX7_back_33 ?_
        obtain ⟨t34, et34, hf⟩ := obd hf
        refine tast hx hb hE hI 1 781 0 rfl (fun _ => rfl) et34 dX7_back_34 (fun H locs hI => ?_)
        obtain ⟨v35, ev35, hf⟩ := obd hf
        refine lv_iinc (v := v35) (lv' := [(1, .int v35), (0, .ref o)]) hx hb dX7_back_35 hl (k := 1) rfl (iiE ev35 (by decide)) (by decide) rfl (fun ls hl => ?_)
        refine lv_goto (tgt := 16) hx hb dX7_back_38 (by decide) ?_
        exact hk _ (Option.some.inj hf).symm H locs ls hI (lv_sub hl [1, 0] rfl)
    · skip
      intro H locs ls hI hl
      refine lv_aload_n hx hb dX7_back_41 rfl (lv_at hl 0 rfl) ?_
      refine lv_iconst (v := (0 : Int32)) hx hb dX7_back_42 (by decide) ?_
      obtain ⟨t43, et43, hf⟩ := obd hf
      refine tput hx hb hts hown hE hI 6 (by decide) q2106 rfl (tyX7_ok 6 (by decide)) rfl rfl rfl et43 dX7_back_43 (fun H locs hI => ?_)
      refine lv_iconst (v := (1 : Int32)) hx hb dX7_back_46 (by decide) ?_
      have hf := Prod.mk.inj (Option.some.inj hf)
      rw [hf.1]
      exact hret H locs 47 ls (hf.2 ▸ hI) (hf.1 ▸ (by decide)) dX7_back_47
  · replace hf := ipos hc hf
    refine lv_iconst (v := (0 : Int32)) hx hb dX7_back_12 (by decide) ?_
    have hf := Prod.mk.inj (Option.some.inj hf)
    rw [hf.1]
    exact hret H locs 13 ls (hf.2 ▸ hI) (hf.1 ▸ (by decide)) dX7_back_13


def X7_count_L126 (τ : Mm) (c1 : Int32) (w126 : Int32 × Int32) : Option ((Int32 × Int32) ⊕ (Int32)) :=
  if (τ 0 3) ≤ w126.2 then
    some (.inr w126.1)
  else
    (X7_coins τ w126.2).bind fun x139 =>
    (some (w126.1 + x139)).bind fun v143 =>
    (some (w126.2 + (1 : Int32))).bind fun v144 =>
    some (.inl (v143, v144))
def X7_count (τ : Mm) (a1 : Int32) : Option (Int32 × Mm) :=
  (some (mup τ 10 0 (0 : Int32))).bind fun t2 =>
  if a1 = (0 : Int32) then
    some ((t2 0 3), t2)
  else
    if a1 = (1 : Int32) then
      some ((t2 0 4), t2)
    else
      if a1 = (2 : Int32) then
        some ((t2 0 5), t2)
      else
        if a1 = (3 : Int32) then
          some ((t2 0 0), t2)
        else
          if a1 = (4 : Int32) then
            some ((t2 0 1), t2)
          else
            (X7_isIn a1 (5 : Int32) (7 : Int32)).bind fun x68 =>
            if x68 = (0 : Int32) then
              if a1 = (9 : Int32) then
                (X7_paidOnes t2).bind fun x93 =>
                some (x93, t2)
              else
                if a1 = (10 : Int32) then
                  some ((t2 0 9), t2)
                else
                  if a1 = (11 : Int32) then
                    some ((t2 10 6), t2)
                  else
                    (loopO (X7_count_L126 t2 a1) FU ((0 : Int32), (0 : Int32))).bind fun e126 =>
                    if a1 = (8 : Int32) then
                      some (e126, t2)
                    else
                      some ((-1 : Int32), t2)
            else
              (ld 781 (t2 0) (((6 : Int32) + a1) - (5 : Int32))).bind fun x84 =>
              some (x84, t2)
set_option maxHeartbeats 4000000 in
theorem mX7_count (τ : Mm) (a1 : Int32) (r : Int32) (τ' : Mm) (hf : X7_count τ a1 = some (r, τ')) : TMi yX7_count cX7_count 4 (some .int) 3 84 (fun aK => [.int a1]) r τ τ' := by
  refine TMi.of (by decide) rfl (fun _ _ => Nat.le_of_ble_eq_true rfl) ?_
  intro p l e s m args below meth c D cI cZ o z aK aV Q ls hz hx hb hml hown hts hE hret hI hl
  obtain ⟨H, eH⟩ : ∃ H, H = s.heap := ⟨_, rfl⟩
  obtain ⟨locs, eL⟩ : ∃ L : List Loc, L = [] := ⟨_, rfl⟩
  rw [← eH, ← eL] at hI ⊢
  have hl : lv_has ls 4 [(0, .ref o), (1, .int a1)] := hl
  unfold X7_count at hf
  refine lv_aload_n hx hb dX7_count_0 rfl (lv_at hl 0 rfl) ?_
  refine lv_iconst (v := (0 : Int32)) hx hb dX7_count_1 (by decide) ?_
  obtain ⟨t2, et2, hf⟩ := obd hf
  refine tput hx hb hts hown hE hI 0 (by decide) q2100 rfl (tyX7_ok 0 (by decide)) rfl rfl rfl et2 dX7_count_2 (fun H locs hI => ?_)
  refine lv_iload_n hx hb dX7_count_5 rfl (lv_at hl 1 rfl) ?_
  refine lv_if_ne (tgt := 16) hx hb dX7_count_6 (by decide) (fun hc => ?_) (fun hc => ?_)
  · replace hf := ineg hc hf
    refine lv_iload_n hx hb dX7_count_16 rfl (lv_at hl 1 rfl) ?_
    refine lv_iconst (v := (1 : Int32)) hx hb dX7_count_17 (by decide) ?_
    refine lv_icmp_ne (tgt := 28) hx hb dX7_count_18 (by decide) (fun hc => ?_) (fun hc => ?_)
    · replace hf := ineg hc hf
      refine lv_iload_n hx hb dX7_count_28 rfl (lv_at hl 1 rfl) ?_
      refine lv_iconst (v := (2 : Int32)) hx hb dX7_count_29 (by decide) ?_
      refine lv_icmp_ne (tgt := 40) hx hb dX7_count_30 (by decide) (fun hc => ?_) (fun hc => ?_)
      · replace hf := ineg hc hf
        refine lv_iload_n hx hb dX7_count_40 rfl (lv_at hl 1 rfl) ?_
        refine lv_iconst (v := (3 : Int32)) hx hb dX7_count_41 (by decide) ?_
        refine lv_icmp_ne (tgt := 52) hx hb dX7_count_42 (by decide) (fun hc => ?_) (fun hc => ?_)
        · replace hf := ineg hc hf
          refine lv_iload_n hx hb dX7_count_52 rfl (lv_at hl 1 rfl) ?_
          refine lv_iconst (v := (4 : Int32)) hx hb dX7_count_53 (by decide) ?_
          refine lv_icmp_ne (tgt := 64) hx hb dX7_count_54 (by decide) (fun hc => ?_) (fun hc => ?_)
          · replace hf := ineg hc hf
            refine lv_iload_n hx hb dX7_count_64 rfl (lv_at hl 1 rfl) ?_
            refine lv_iconst (v := (5 : Int32)) hx hb dX7_count_65 (by decide) ?_
            refine lv_bipush (v := (7 : Int32)) hx hb dX7_count_66 (by decide) ?_
            obtain ⟨x68, ex68, hf⟩ := obd hf
            refine tcallS (rest := []) hx hb hts hown hml hl.1 (mX7_isIn a1 (5 : Int32) (7 : Int32) _ ex68) (cwX7_isIn hts ⟨Nat.le_of_ble_eq_true rfl, Nat.le_of_ble_eq_true rfl⟩) ⟨Nat.le_of_ble_eq_true rfl, Nat.le_of_ble_eq_true rfl⟩ rfl rfl (lv_room (Nat.le_of_ble_eq_true rfl)) dX7_count_68 ?_
            refine lv_if_eq (tgt := 86) hx hb dX7_count_71 (by decide) (fun hc => ?_) (fun hc => ?_)
            · replace hf := ipos hc hf
              refine lv_iload_n hx hb dX7_count_86 rfl (lv_at hl 1 rfl) ?_
              refine lv_bipush (v := (9 : Int32)) hx hb dX7_count_87 (by decide) ?_
              refine lv_icmp_ne (tgt := 97) hx hb dX7_count_89 (by decide) (fun hc => ?_) (fun hc => ?_)
              · replace hf := ineg hc hf
                refine lv_iload_n hx hb dX7_count_97 rfl (lv_at hl 1 rfl) ?_
                refine lv_bipush (v := (10 : Int32)) hx hb dX7_count_98 (by decide) ?_
                refine lv_icmp_ne (tgt := 111) hx hb dX7_count_100 (by decide) (fun hc => ?_) (fun hc => ?_)
                · replace hf := ineg hc hf
                  refine lv_iload_n hx hb dX7_count_111 rfl (lv_at hl 1 rfl) ?_
                  refine lv_bipush (v := (11 : Int32)) hx hb dX7_count_112 (by decide) ?_
                  refine lv_icmp_ne (tgt := 122) hx hb dX7_count_114 (by decide) (fun hc => ?_) (fun hc => ?_)
                  · replace hf := ineg hc hf
                    refine lv_iconst (v := (0 : Int32)) hx hb dX7_count_122 (by decide) ?_
                    refine lv_istore_n (lv' := [(2, .int (0 : Int32)), (0, .ref o), (1, .int a1)]) hx hb dX7_count_123 rfl hl (by decide) rfl (fun ls hl => ?_)
                    refine lv_iconst (v := (0 : Int32)) hx hb dX7_count_124 (by decide) ?_
                    refine lv_istore_n (lv' := [(3, .int (0 : Int32)), (2, .int (0 : Int32)), (0, .ref o), (1, .int a1)]) hx hb dX7_count_125 rfl hl (by decide) rfl (fun ls hl => ?_)
                    obtain ⟨e126, he126, hf⟩ := obd hf
                    have hs126 : ∀ (τ : Mm) (c1 : Int32), ∀ (w126 : Int32 × Int32) (o126 : (Int32 × Int32) ⊕ (Int32)), X7_count_L126 τ c1 w126 = some o126 → (∀ wx_, o126 = .inl wx_ → ∀ (H : Heap) (locs : List Loc) (ls : Array Slot), IT D cI cZ o s H locs τ → lv_has ls 4 [(0, .ref o), (1, .int c1), (2, .int wx_.1), (3, .int wx_.2)] → W p l e ({ frames := 3, cells := 0, slots := 0, locals := 84 } : Room) s m args below meth c H locs 0 0 Q (F0 m 126 ls [])) → (∀ ex_, o126 = .inr ex_ → ∀ (H : Heap) (locs : List Loc) (ls : Array Slot), IT D cI cZ o s H locs τ → lv_has ls 4 [(1, .int c1), (2, .int ex_)] → W p l e ({ frames := 3, cells := 0, slots := 0, locals := 84 } : Room) s m args below meth c H locs 0 0 Q (F0 m 150 ls [])) → ∀ (H : Heap) (locs : List Loc) (ls : Array Slot), IT D cI cZ o s H locs τ → lv_has ls 4 [(0, .ref o), (1, .int c1), (2, .int w126.1), (3, .int w126.2)] → W p l e ({ frames := 3, cells := 0, slots := 0, locals := 84 } : Room) s m args below meth c H locs 0 0 Q (F0 m 126 ls []) := by
                      intro τ c1 w126 o126 hf hk hq H locs ls hI hl
                      unfold X7_count_L126 at hf
                      refine lv_iload_n hx hb dX7_count_126 rfl (lv_at hl 3 rfl) ?_
                      refine lv_aload_n hx hb dX7_count_127 rfl (lv_at hl 0 rfl) ?_
                      refine tget hx hb hts hown hE hI 1 (by decide) q2101 rfl dX7_count_128 ?_
                      refine lv_iconst (v := (3 : Int32)) hx hb dX7_count_131 (by decide) ?_
                      refine taldc hx hb hE hI 1 781 3 rfl (by decide) (by decide) dX7_count_132 ?_
                      refine lv_icmp_ge (tgt := 150) hx hb dX7_count_133 (by decide) (fun hc => ?_) (fun hc => ?_)
                      · replace hf := ipos hc hf
                        exact hq _ (Option.some.inj hf).symm H locs ls hI (lv_sub hl [1, 2] rfl)
                      · replace hf := ineg hc hf
                        refine lv_iload_n hx hb dX7_count_136 rfl (lv_at hl 2 rfl) ?_
                        refine lv_aload_n hx hb dX7_count_137 rfl (lv_at hl 0 rfl) ?_
                        refine lv_iload_n hx hb dX7_count_138 rfl (lv_at hl 3 rfl) ?_
                        obtain ⟨x139, ex139, hf⟩ := obd hf
                        refine tcallI (rest := [.int w126.1]) hx hb hts hown hE hz hI hml hl.1 (mX7_coins τ w126.2 _ ex139) (cwX7_coins hts ⟨Nat.le_of_ble_eq_true rfl, Nat.le_of_ble_eq_true rfl⟩) ⟨Nat.le_of_ble_eq_true rfl, Nat.le_of_ble_eq_true rfl⟩ rfl rfl (lv_room (Nat.le_of_ble_eq_true rfl)) dX7_count_139 (fun H locs hI => ?_)
                        refine lv_iadd hx hb dX7_count_142 ?_
                        obtain ⟨v143, ev143, hf⟩ := obd hf
                        refine nmI ev143 ?_
                        refine lv_istore_n (lv' := [(2, .int v143), (0, .ref o), (1, .int c1), (3, .int w126.2)]) hx hb dX7_count_143 rfl hl (by decide) rfl (fun ls hl => ?_)
                        obtain ⟨v144, ev144, hf⟩ := obd hf
                        refine lv_iinc (v := v144) (lv' := [(3, .int v144), (2, .int v143), (0, .ref o), (1, .int c1)]) hx hb dX7_count_144 hl (k := 3) rfl (iiE ev144 (by decide)) (by decide) rfl (fun ls hl => ?_)
                        refine lv_goto (tgt := 126) hx hb dX7_count_147 (by decide) ?_
                        exact hk _ (Option.some.inj hf).symm H locs ls hI (lv_sub hl [2, 3, 1, 0] rfl)
                    refine loopO_W (Wat := fun w126 => ∀ (H : Heap) (locs : List Loc) (ls : Array Slot), IT D cI cZ o s H locs t2 → lv_has ls 4 [(0, .ref o), (1, .int a1), (2, .int w126.1), (3, .int w126.2)] → W p l e ({ frames := 3, cells := 0, slots := 0, locals := 84 } : Room) s m args below meth c H locs 0 0 Q (F0 m 126 ls [])) (Wex := fun ex_ => ∀ (H : Heap) (locs : List Loc) (ls : Array Slot), IT D cI cZ o s H locs t2 → lv_has ls 4 [(1, .int a1), (2, .int ex_)] → W p l e ({ frames := 3, cells := 0, slots := 0, locals := 84 } : Room) s m args below meth c H locs 0 0 Q (F0 m 150 ls [])) (hs126 t2 a1) FU _ e126 he126 ?_ H locs ls hI (lv_sub hl [2, 3, 1, 0] rfl)
                    · skip
                      intro H locs ls hI hl
                      refine lv_iload_n hx hb dX7_count_150 rfl (lv_at hl 0 rfl) ?_
                      refine lv_bipush (v := (8 : Int32)) hx hb dX7_count_151 (by decide) ?_
                      refine lv_icmp_ne (tgt := 160) hx hb dX7_count_153 (by decide) (fun hc => ?_) (fun hc => ?_)
                      · replace hf := ineg hc hf
                        refine lv_iconst (v := (-1 : Int32)) hx hb dX7_count_160 (by decide) ?_
                        have hf := Prod.mk.inj (Option.some.inj hf)
                        rw [hf.1]
                        exact hret H locs 161 ls (hf.2 ▸ hI) dX7_count_161
                      · replace hf := ipos hc hf
                        refine lv_iload_n hx hb dX7_count_156 rfl (lv_at hl 1 rfl) ?_
                        refine lv_goto (tgt := 161) hx hb dX7_count_157 (by decide) ?_
                        have hf := Prod.mk.inj (Option.some.inj hf)
                        rw [hf.1]
                        exact hret H locs 161 ls (hf.2 ▸ hI) dX7_count_161
                  · replace hf := ipos hc hf
                    refine lv_aload_n hx hb dX7_count_117 rfl (lv_at hl 0 rfl) ?_
                    refine tget hx hb hts hown hE hI 6 (by decide) q2106 rfl dX7_count_118 ?_
                    have hf := Prod.mk.inj (Option.some.inj hf)
                    rw [hf.1]
                    exact hret H locs 121 ls (hf.2 ▸ hI) dX7_count_121
                · replace hf := ipos hc hf
                  refine lv_aload_n hx hb dX7_count_103 rfl (lv_at hl 0 rfl) ?_
                  refine tget hx hb hts hown hE hI 1 (by decide) q2101 rfl dX7_count_104 ?_
                  refine lv_bipush (v := (9 : Int32)) hx hb dX7_count_107 (by decide) ?_
                  refine taldc hx hb hE hI 1 781 9 rfl (by decide) (by decide) dX7_count_109 ?_
                  have hf := Prod.mk.inj (Option.some.inj hf)
                  rw [hf.1]
                  exact hret H locs 110 ls (hf.2 ▸ hI) dX7_count_110
              · replace hf := ipos hc hf
                refine lv_aload_n hx hb dX7_count_92 rfl (lv_at hl 0 rfl) ?_
                obtain ⟨x93, ex93, hf⟩ := obd hf
                refine tcallI (rest := []) hx hb hts hown hE hz hI hml hl.1 (mX7_paidOnes t2 _ ex93) (cwX7_paidOnes hts ⟨Nat.le_of_ble_eq_true rfl, Nat.le_of_ble_eq_true rfl⟩) ⟨Nat.le_of_ble_eq_true rfl, Nat.le_of_ble_eq_true rfl⟩ rfl rfl (lv_room (Nat.le_of_ble_eq_true rfl)) dX7_count_93 (fun H locs hI => ?_)
                have hf := Prod.mk.inj (Option.some.inj hf)
                rw [hf.1]
                exact hret H locs 96 ls (hf.2 ▸ hI) dX7_count_96
            · replace hf := ineg hc hf
              refine lv_aload_n hx hb dX7_count_74 rfl (lv_at hl 0 rfl) ?_
              refine tget hx hb hts hown hE hI 1 (by decide) q2101 rfl dX7_count_75 ?_
              refine lv_bipush (v := (6 : Int32)) hx hb dX7_count_78 (by decide) ?_
              refine lv_iload_n hx hb dX7_count_80 rfl (lv_at hl 1 rfl) ?_
              refine lv_iadd hx hb dX7_count_81 ?_
              refine lv_iconst (v := (5 : Int32)) hx hb dX7_count_82 (by decide) ?_
              refine lv_isub hx hb dX7_count_83 ?_
              obtain ⟨x84, ex84, hf⟩ := obd hf
              refine tald hx hb hE hI 1 781 rfl ex84 dX7_count_84 ?_
              have hf := Prod.mk.inj (Option.some.inj hf)
              rw [hf.1]
              exact hret H locs 85 ls (hf.2 ▸ hI) dX7_count_85
          · replace hf := ipos hc hf
            refine lv_aload_n hx hb dX7_count_57 rfl (lv_at hl 0 rfl) ?_
            refine tget hx hb hts hown hE hI 1 (by decide) q2101 rfl dX7_count_58 ?_
            refine lv_iconst (v := (1 : Int32)) hx hb dX7_count_61 (by decide) ?_
            refine taldc hx hb hE hI 1 781 1 rfl (by decide) (by decide) dX7_count_62 ?_
            have hf := Prod.mk.inj (Option.some.inj hf)
            rw [hf.1]
            exact hret H locs 63 ls (hf.2 ▸ hI) dX7_count_63
        · replace hf := ipos hc hf
          refine lv_aload_n hx hb dX7_count_45 rfl (lv_at hl 0 rfl) ?_
          refine tget hx hb hts hown hE hI 1 (by decide) q2101 rfl dX7_count_46 ?_
          refine lv_iconst (v := (0 : Int32)) hx hb dX7_count_49 (by decide) ?_
          refine taldc hx hb hE hI 1 781 0 rfl (by decide) (by decide) dX7_count_50 ?_
          have hf := Prod.mk.inj (Option.some.inj hf)
          rw [hf.1]
          exact hret H locs 51 ls (hf.2 ▸ hI) dX7_count_51
      · replace hf := ipos hc hf
        refine lv_aload_n hx hb dX7_count_33 rfl (lv_at hl 0 rfl) ?_
        refine tget hx hb hts hown hE hI 1 (by decide) q2101 rfl dX7_count_34 ?_
        refine lv_iconst (v := (5 : Int32)) hx hb dX7_count_37 (by decide) ?_
        refine taldc hx hb hE hI 1 781 5 rfl (by decide) (by decide) dX7_count_38 ?_
        have hf := Prod.mk.inj (Option.some.inj hf)
        rw [hf.1]
        exact hret H locs 39 ls (hf.2 ▸ hI) dX7_count_39
    · replace hf := ipos hc hf
      refine lv_aload_n hx hb dX7_count_21 rfl (lv_at hl 0 rfl) ?_
      refine tget hx hb hts hown hE hI 1 (by decide) q2101 rfl dX7_count_22 ?_
      refine lv_iconst (v := (4 : Int32)) hx hb dX7_count_25 (by decide) ?_
      refine taldc hx hb hE hI 1 781 4 rfl (by decide) (by decide) dX7_count_26 ?_
      have hf := Prod.mk.inj (Option.some.inj hf)
      rw [hf.1]
      exact hret H locs 27 ls (hf.2 ▸ hI) dX7_count_27
  · replace hf := ipos hc hf
    refine lv_aload_n hx hb dX7_count_9 rfl (lv_at hl 0 rfl) ?_
    refine tget hx hb hts hown hE hI 1 (by decide) q2101 rfl dX7_count_10 ?_
    refine lv_iconst (v := (3 : Int32)) hx hb dX7_count_13 (by decide) ?_
    refine taldc hx hb hE hI 1 781 3 rfl (by decide) (by decide) dX7_count_14 ?_
    have hf := Prod.mk.inj (Option.some.inj hf)
    rw [hf.1]
    exact hret H locs 15 ls (hf.2 ▸ hI) dX7_count_15

