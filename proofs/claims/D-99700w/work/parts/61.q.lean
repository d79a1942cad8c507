set_option maxRecDepth 100000
theorem lkN {x y : Int32} {k : Int} (h : ¬ x = y) (hk : y.toInt = k) : ¬ k = x.toInt := fun e => h (Int32.toInt_inj.mp (e.symm.trans hk.symm))

theorem cwX3_word_X3 {R : Room} {s : State} {args : Array Value} {fr lo mc ms : Nat} (hts : ∀ w ∈ lw_all, w.before args s = true) (hR : fr + 1 ≤ R.frames ∧ 8 + (3 + 11) + lo ≤ R.locals) : CallW R s args RX3 RX3 56 yX3_word cX3_word 3 (some (.object "java/lang/String")) (ws_ yX3_word cX3_word 3 (some (.object "java/lang/String"))) ({ frames := fr, cells := mc, slots := ms, locals := lo }) mc ms 0 :=
  cwV 0 hts (lw_V q1330 q863 q864 q136 q865) rfl rfl rfl (by decide +kernel) hR
theorem cwJ6_equals_X3 {R : Room} {s : State} {args : Array Value} {fr lo : Nat} (hts : ∀ w ∈ lw_all, w.before args s = true) (hR : fr + 1 ≤ R.frames ∧ 8 + (3 + 11) + lo ≤ R.locals) : CallW R s args RX3 RJ6 59 yJ6_equals cJ6_equals 3 (some .boolean) (ws_ yJ6_equals cJ6_equals 3 (some .boolean)) ({ frames := fr, cells := 0, slots := 0, locals := lo }) 0 0 1 :=
  cwV 1 hts (lw_V q1331 q1286 q1287 q147 q1288) rfl rfl rfl (by decide +kernel) hR
def X3_passes (τ : Cs) (i1 : Nat) : Option (Po × Kc) :=
  (X3_word τ).bind fun t1 => addc (wC t1, wS t1) (
  if (weq t1 i1) = (0 : Int32) then
    (some (cou t1 (mup (co t1) 1 3 (co t1 1 4)))).bind fun t18 =>
    some (.inl ((0 : Int32), t18), (0, 0))
  else
    some (.inl ((1 : Int32), t1), (0, 0)))
set_option maxHeartbeats 4000000 in
theorem mX3_passes (Λ : Nat → Nat → (Nat → Int32) → Int32) (Λn : Nat → Int32) (τ : Cs) (i1 : Nat) (hi1 : i1 < nS) (out : Po) (T : Kc) (hf : X3_passes τ i1 = some (out, T)) : PXi yX3_passes cX3_passes 2 (some .boolean) 15 1522 Λ Λn (fun o aK aF => [.ref (o + 61), .ref (aK i1)]) out T τ := by
  refine PXz.of (by decide) (fun _ _ _ => Nat.le_of_ble_eq_true rfl) ?_
  intro p l e s m args below meth c D8 D J o z aK aV G Ld aF N9 Q ls hst hx hb hml hown hts hEP hret hxx hI hl
  have hE := hEP.1
  obtain ⟨H, eH⟩ : ∃ H, H = s.heap := ⟨_, rfl⟩
  obtain ⟨locs, eL⟩ : ∃ L : List Loc, L = [] := ⟨_, rfl⟩
  rw [← eH, ← eL] at hI ⊢
  have hown : s.vm.findClass RX3 = some m.cls := hown
  have hu1 : 0 + T.1 = T.1 := Nat.zero_add _
  have hu2 : 0 + T.2 = T.2 := Nat.zero_add _
  have hl : lv_has ls 2 [(0, .ref (o + 61)), (1, .ref (aK i1))] := hl
  unfold X3_passes at hf
  refine lv_aload_n hx hb dX3_passes_0 rfl (lv_at hl 0 rfl) ?_
  obtain ⟨t1, et1, hf⟩ := obd hf
  obtain ⟨C1, hf, eC1, eC2⟩ := addc_e hf
  replace eC1 : T.1 = wC t1 + C1.1 := eC1
  replace eC2 : T.2 = wS t1 + C1.2 := eC2
  refine pword (rest := []) hx hb hts hown hEP hI hml hl.1 et1 (cwX3_word_X3 hts ⟨Nat.le_of_ble_eq_true rfl, Nat.le_of_ble_eq_true rfl⟩) ⟨(show 0 + wC t1 ≤ T.1 by omega), (show 0 + wS t1 ≤ T.2 by omega)⟩ (lv_room (Nat.le_of_ble_eq_true rfl)) dX3_passes_1 (fun st1 vast1 H locs hI hsst1 => ?_)
  obtain ⟨cu1, ecu1⟩ : ∃ n, n = 0 + wC t1 := ⟨_, rfl⟩
  obtain ⟨su1, esu1⟩ : ∃ n, n = 0 + wS t1 := ⟨_, rfl⟩
  rw [← ecu1, ← esu1]
  replace hu1 : cu1 + C1.1 = T.1 := by omega
  replace hu2 : su1 + C1.2 = T.2 := by omega
  clear ecu1 esu1 eC1 eC2
  refine lv_aload_n hx hb dX3_passes_4 rfl (lv_at hl 1 rfl) ?_
  refine pequals (rest := []) hx hb hts hown hEP hI hml hl.1 hsst1 hi1 (cwJ6_equals_X3 hts ⟨Nat.le_of_ble_eq_true rfl, Nat.le_of_ble_eq_true rfl⟩) ⟨leC hu1, leC hu2⟩ (lv_room (Nat.le_of_ble_eq_true rfl)) dX3_passes_5 (fun H locs hI hsst1 => ?_)
  refine lv_if_eq (tgt := 13) hx hb dX3_passes_8 (by decide) (fun hc => ?_) (fun hc => ?_)
  · replace hf := ipos hc hf
    refine lv_aload_n hx hb dX3_passes_13 rfl (lv_at hl 0 rfl) ?_
    refine lv_aload_n hx hb dX3_passes_14 rfl (lv_at hl 0 rfl) ?_
    refine gget hx hb hts in_X3 hown hE.1.1 (hI.1.o 1 rfl) rfl 4 (by decide) q332 rfl dX3_passes_15 ?_
    obtain ⟨t18, et18, hf⟩ := obd hf
    refine gput hx hb hts in_X3 tyX3 tyX3_ok nmX3 hown hE.1.1 (hI.1.o 1 rfl) rfl 3 (by decide) q331 rfl rfl rfl (Nat.le_of_ble_eq_true rfl) dX3_passes_18 (fun H locs h1 h2 h3 h4 => ?_)
    have hI := hI.putO (σ' := cou t1 (mup (co t1) 1 3 (co t1 1 4))) (P := 1) rfl rfl ⟨rfl, rfl⟩ h1 h2 h3 h4
    rw [Option.some.inj et18] at hI
    refine lv_iconst (v := (0 : Int32)) hx hb dX3_passes_21 (by decide) ?_
    obtain ⟨ho, -⟩ := pr_e hf
    exact hret H locs 22 ls _ _ _ _ hI ho (by decide) (leC hu1) (leC hu2) dX3_passes_22
  · replace hf := ineg hc hf
    refine lv_iconst (v := (1 : Int32)) hx hb dX3_passes_11 (by decide) ?_
    obtain ⟨ho, -⟩ := pr_e hf
    exact hret H locs 12 ls _ _ _ _ hI ho (by decide) (leC hu1) (leC hu2) dX3_passes_12

theorem cwX3_wrong_X3 {R : Room} {s : State} {args : Array Value} {fr lo : Nat} (hts : ∀ w ∈ lw_all, w.before args s = true) (hR : fr + 1 ≤ R.frames ∧ 8 + (1 + 11) + lo ≤ R.locals) : CallW R s args RX3 RX3 69 yX3_wrong cX3_wrong 1 (some (.object "LateInks$Wrong")) (ws_ yX3_wrong cX3_wrong 1 (some (.object "LateInks$Wrong"))) ({ frames := fr, cells := 1, slots := 6, locals := lo }) 1 6 0 :=
  cwV 0 hts (lw_V q1311 q1196 q1197 q136 q1198) rfl rfl rfl (by decide +kernel) hR
def X3_figures_L7 (a1 : Int32) (a2 : Int32) (a3 : Int32) : Nat → Cs → Int32 → Option (Po × Kc)
  | 0, _, _ => none
  | n + 1, τ, x4 =>
    (X3_byteAt τ (co τ 1 3)).bind fun x12 =>
    (X1_in x12 (48 : Int32) (57 : Int32)).bind fun x19 =>
    if x19 = (0 : Int32) then
      if (co τ 1 3) = (co τ 1 4) then
        some (.inr τ, (1, 6))
      else
        if a3 < ((co τ 1 3) - (co τ 1 4)) then
          some (.inr τ, (1, 6))
        else
          (X1_in x4 a1 a2).bind fun x103 =>
          if x103 = (0 : Int32) then
            some (.inr τ, (1, 6))
          else
            some (.inl (x4, τ), (0, 0))
    else
      if a3 ≤ ((co τ 1 3) - (co τ 1 4)) then
        (some (cou τ (mup (co τ) 1 3 ((co τ 1 3) + (1 : Int32))))).bind fun t69 =>
        X3_figures_L7 a1 a2 a3 n t69 x4
      else
        (X3_byteAt τ (co τ 1 3)).bind fun x48 =>
        (some ((((10 : Int32) * x4) + x48) - (48 : Int32))).bind fun v60 =>
        (some (cou τ (mup (co τ) 1 3 ((co τ 1 3) + (1 : Int32))))).bind fun t69_7 =>
        X3_figures_L7 a1 a2 a3 n t69_7 v60
def X3_figures (τ : Cs) (a1 : Int32) (a2 : Int32) (a3 : Int32) : Option (Po × Kc) :=
  (X3_blanks τ).bind fun t1 =>
  X3_figures_L7 a1 a2 a3 FU t1 (0 : Int32)
set_option maxHeartbeats 4000000 in
theorem mX3_figures (Λ : Nat → Nat → (Nat → Int32) → Int32) (Λn : Nat → Int32) (τ : Cs) (a1 : Int32) (a2 : Int32) (a3 : Int32) (out : Po) (T : Kc) (hf : X3_figures τ a1 a2 a3 = some (out, T)) : PXi yX3_figures cX3_figures 5 (some .int) 8 320 Λ Λn (fun o aK aF => [.ref (o + 61), .int a1, .int a2, .int a3]) out T τ := by
  refine PXi.of (by decide) (fun _ _ _ => Nat.le_of_ble_eq_true rfl) ?_
  intro p l e s m args below meth c D8 D J o z aK aV G Ld aF N9 Q ls hst hx hb hml hown hts hEP hret hxx hI hl
  have hE := hEP.1
  obtain ⟨H, eH⟩ : ∃ H, H = s.heap := ⟨_, rfl⟩
  obtain ⟨locs, eL⟩ : ∃ L : List Loc, L = [] := ⟨_, rfl⟩
  rw [← eH, ← eL] at hI ⊢
  have hown : s.vm.findClass RX3 = some m.cls := hown
  have hu1 : 0 + T.1 = T.1 := Nat.zero_add _
  have hu2 : 0 + T.2 = T.2 := Nat.zero_add _
  have hl : lv_has ls 5 [(0, .ref (o + 61)), (1, .int a1), (2, .int a2), (3, .int a3)] := hl
  unfold X3_figures at hf
  have hJ7 : ∀ (n : Nat) (τ : Cs) (x4 : Int32) (C : Kc) (H : Heap) (locs : List Loc) (ls : Array Slot), X3_figures_L7 a1 a2 a3 n τ x4 = some (out, C) → ∀ (cu su : Nat), cu + C.1 = T.1 → su + C.2 = T.2 → IP D J o Ld N9 s H locs τ → lv_has ls 5 [(0, .ref (o + 61)), (1, .int a1), (2, .int a2), (3, .int a3), (4, .int x4)] → W p l e ({ frames := 8, cells := T.1, slots := T.2, locals := 320 } : Room) s m args below meth c H locs cu su Q (F0 m 7 ls []) := by
    intro n
    induction n with
    | zero =>
      intro τ x4 C H locs ls hf cu su hu1 hu2 hI hl
      cases hf
    | succ n ih =>
      intro τ x4 C H locs ls hf cu su hu1 hu2 hI hl
      rw [X3_figures_L7] at hf
      refine lv_aload_n hx hb dX3_figures_7 rfl (lv_at hl 0 rfl) ?_
      refine lv_aload_n hx hb dX3_figures_8 rfl (lv_at hl 0 rfl) ?_
      refine gget hx hb hts in_X3 hown hE.1.1 (hI.1.o 1 rfl) rfl 3 (by decide) q331 rfl dX3_figures_9 ?_
      obtain ⟨x12, ex12, hf⟩ := obd hf
      refine pccallI (rest := []) hx hb hts hown hE hI hml hl.1 (mX3_byteAt Λ Λn τ (co τ 1 3) _ ex12) (cwX3_byteAt_X3 hts ⟨Nat.le_of_ble_eq_true rfl, Nat.le_of_ble_eq_true rfl⟩) (hI.1.o 1 rfl) rfl rfl ⟨leC hu1, leC hu2⟩ rfl rfl (lv_room (Nat.le_of_ble_eq_true rfl)) dX3_figures_12 (fun H locs hI => ?_)
      refine lv_bipush (v := (48 : Int32)) hx hb dX3_figures_15 (by decide) ?_
      refine lv_bipush (v := (57 : Int32)) hx hb dX3_figures_17 (by decide) ?_
      obtain ⟨x19, ex19, hf⟩ := obd hf
      refine tcallSN (rest := []) hx hb hts hown hml hl.1 (mX1_in x12 (48 : Int32) (57 : Int32) _ ex19) (cnX1_in_X3 hts hE.1.2.2 ⟨Nat.le_of_ble_eq_true rfl, Nat.le_of_ble_eq_true rfl⟩) ⟨leC hu1, leC hu2⟩ rfl rfl (lv_room (Nat.le_of_ble_eq_true rfl)) dX3_figures_19 ?_
      refine lv_if_eq (tgt := 75) hx hb dX3_figures_22 (by decide) (fun hc => ?_) (fun hc => ?_)
      · replace hf := ipos hc hf
        refine lv_aload_n hx hb dX3_figures_75 rfl (lv_at hl 0 rfl) ?_
        refine gget hx hb hts in_X3 hown hE.1.1 (hI.1.o 1 rfl) rfl 3 (by decide) q331 rfl dX3_figures_76 ?_
        refine lv_aload_n hx hb dX3_figures_79 rfl (lv_at hl 0 rfl) ?_
        refine gget hx hb hts in_X3 hown hE.1.1 (hI.1.o 1 rfl) rfl 4 (by decide) q332 rfl dX3_figures_80 ?_
        refine lv_icmp_eq (tgt := 109) hx hb dX3_figures_83 (by decide) (fun hc => ?_) (fun hc => ?_)
        · replace hf := ipos hc hf
          refine lv_aload_n hx hb dX3_figures_109 rfl (lv_at hl 0 rfl) ?_
          obtain ⟨ho, hK⟩ := pr_e hf
          have hK1 : C.1 = 1 := congrArg Prod.fst hK
          have hK2 : C.2 = 6 := congrArg Prod.snd hK
          have hu3 : cu + 1 = T.1 := by omega
          have hu4 : su + 6 = T.2 := by omega
          refine pwrong (rest := []) hx hb hts hst hown hEP hI hml hl.1 (cwX3_wrong_X3 hts ⟨Nat.le_of_ble_eq_true rfl, Nat.le_of_ble_eq_true rfl⟩) ⟨Nat.le_of_eq hu3, Nat.le_of_eq hu4⟩ (lv_room (Nat.le_of_ble_eq_true rfl)) dX3_figures_110 dX3_figures_113 (fun E ce q9 H locs hn hI h1 h2 h3 => ?_)
          exact hxx H locs 113 ls _ _ _ E ce q9 _ hI ho hn h1 h2 h3 (Nat.le_of_eq hu3) (Nat.le_of_eq hu4)
        · replace hf := ineg hc hf
          refine lv_aload_n hx hb dX3_figures_86 rfl (lv_at hl 0 rfl) ?_
          refine gget hx hb hts in_X3 hown hE.1.1 (hI.1.o 1 rfl) rfl 3 (by decide) q331 rfl dX3_figures_87 ?_
          refine lv_aload_n hx hb dX3_figures_90 rfl (lv_at hl 0 rfl) ?_
          refine gget hx hb hts in_X3 hown hE.1.1 (hI.1.o 1 rfl) rfl 4 (by decide) q332 rfl dX3_figures_91 ?_
          refine lv_isub hx hb dX3_figures_94 ?_
          refine lv_iload_n hx hb dX3_figures_95 rfl (lv_at hl 3 rfl) ?_
          refine lv_icmp_gt (tgt := 109) hx hb dX3_figures_96 (by decide) (fun hc => ?_) (fun hc => ?_)
          · replace hf := ipos hc hf
            refine lv_aload_n hx hb dX3_figures_109 rfl (lv_at hl 0 rfl) ?_
            obtain ⟨ho, hK⟩ := pr_e hf
            have hK1 : C.1 = 1 := congrArg Prod.fst hK
            have hK2 : C.2 = 6 := congrArg Prod.snd hK
            have hu3 : cu + 1 = T.1 := by omega
            have hu4 : su + 6 = T.2 := by omega
            refine pwrong (rest := []) hx hb hts hst hown hEP hI hml hl.1 (cwX3_wrong_X3 hts ⟨Nat.le_of_ble_eq_true rfl, Nat.le_of_ble_eq_true rfl⟩) ⟨Nat.le_of_eq hu3, Nat.le_of_eq hu4⟩ (lv_room (Nat.le_of_ble_eq_true rfl)) dX3_figures_110 dX3_figures_113 (fun E ce q9 H locs hn hI h1 h2 h3 => ?_)
            exact hxx H locs 113 ls _ _ _ E ce q9 _ hI ho hn h1 h2 h3 (Nat.le_of_eq hu3) (Nat.le_of_eq hu4)
          · replace hf := ineg hc hf
            refine lv_iload hx hb dX3_figures_99 (lv_at hl 4 rfl) ?_
            refine lv_iload_n hx hb dX3_figures_101 rfl (lv_at hl 1 rfl) ?_
            refine lv_iload_n hx hb dX3_figures_102 rfl (lv_at hl 2 rfl) ?_
            obtain ⟨x103, ex103, hf⟩ := obd hf
            refine tcallSN (rest := []) hx hb hts hown hml hl.1 (mX1_in x4 a1 a2 _ ex103) (cnX1_in_X3 hts hE.1.2.2 ⟨Nat.le_of_ble_eq_true rfl, Nat.le_of_ble_eq_true rfl⟩) ⟨leC hu1, leC hu2⟩ rfl rfl (lv_room (Nat.le_of_ble_eq_true rfl)) dX3_figures_103 ?_
            refine lv_if_ne (tgt := 114) hx hb dX3_figures_106 (by decide) (fun hc => ?_) (fun hc => ?_)
            · replace hf := ineg hc hf
              refine lv_iload hx hb dX3_figures_114 (lv_at hl 4 rfl) ?_
              obtain ⟨ho, -⟩ := pr_e hf
              exact hret H locs 116 ls _ _ _ _ hI ho (leC hu1) (leC hu2) dX3_figures_116
            · replace hf := ipos hc hf
              refine lv_aload_n hx hb dX3_figures_109 rfl (lv_at hl 0 rfl) ?_
              obtain ⟨ho, hK⟩ := pr_e hf
              have hK1 : C.1 = 1 := congrArg Prod.fst hK
              have hK2 : C.2 = 6 := congrArg Prod.snd hK
              have hu3 : cu + 1 = T.1 := by omega
              have hu4 : su + 6 = T.2 := by omega
              refine pwrong (rest := []) hx hb hts hst hown hEP hI hml hl.1 (cwX3_wrong_X3 hts ⟨Nat.le_of_ble_eq_true rfl, Nat.le_of_ble_eq_true rfl⟩) ⟨Nat.le_of_eq hu3, Nat.le_of_eq hu4⟩ (lv_room (Nat.le_of_ble_eq_true rfl)) dX3_figures_110 dX3_figures_113 (fun E ce q9 H locs hn hI h1 h2 h3 => ?_)
              exact hxx H locs 113 ls _ _ _ E ce q9 _ hI ho hn h1 h2 h3 (Nat.le_of_eq hu3) (Nat.le_of_eq hu4)
      · replace hf := ineg hc hf
        refine lv_aload_n hx hb dX3_figures_25 rfl (lv_at hl 0 rfl) ?_
        refine gget hx hb hts in_X3 hown hE.1.1 (hI.1.o 1 rfl) rfl 3 (by decide) q331 rfl dX3_figures_26 ?_
        refine lv_aload_n hx hb dX3_figures_29 rfl (lv_at hl 0 rfl) ?_
        refine gget hx hb hts in_X3 hown hE.1.1 (hI.1.o 1 rfl) rfl 4 (by decide) q332 rfl dX3_figures_30 ?_
        refine lv_isub hx hb dX3_figures_33 ?_
        refine lv_iload_n hx hb dX3_figures_34 rfl (lv_at hl 3 rfl) ?_
        refine lv_icmp_ge (tgt := 58) hx hb dX3_figures_35 (by decide) (fun hc => ?_) (fun hc => ?_)
        · replace hf := ipos hc hf
          refine lv_iload hx hb dX3_figures_58 (lv_at hl 4 rfl) ?_
          refine lv_istore (lv' := [(4, .int x4), (0, .ref (o + 61)), (1, .int a1), (2, .int a2), (3, .int a3)]) hx hb dX3_figures_60 hl (by decide) rfl (fun ls hl => ?_)
          refine lv_aload_n hx hb dX3_figures_62 rfl (lv_at hl 1 rfl) ?_
          refine lv_dup hx hb dX3_figures_63 rfl ?_
          refine gget hx hb hts in_X3 hown hE.1.1 (hI.1.o 1 rfl) rfl 3 (by decide) q331 rfl dX3_figures_64 ?_
          refine lv_iconst (v := (1 : Int32)) hx hb dX3_figures_67 (by decide) ?_
          refine lv_iadd hx hb dX3_figures_68 ?_
          obtain ⟨t69, et69, hf⟩ := obd hf
          refine gput hx hb hts in_X3 tyX3 tyX3_ok nmX3 hown hE.1.1 (hI.1.o 1 rfl) rfl 3 (by decide) q331 rfl rfl rfl (Nat.le_of_ble_eq_true rfl) dX3_figures_69 (fun H locs h1 h2 h3 h4 => ?_)
          have hI := hI.putO (σ' := cou τ (mup (co τ) 1 3 ((co τ 1 3) + (1 : Int32)))) (P := 1) rfl rfl ⟨rfl, rfl⟩ h1 h2 h3 h4
          rw [Option.some.inj et69] at hI
          refine lv_goto (tgt := 7) hx hb dX3_figures_72 (by decide) ?_
          exact ih t69 x4 _ H locs ls hf _ _ hu1 hu2 hI (lv_sub hl [1, 2, 3, 4, 0] rfl)
        · replace hf := ineg hc hf
          refine lv_bipush (v := (10 : Int32)) hx hb dX3_figures_38 (by decide) ?_
          refine lv_iload hx hb dX3_figures_40 (lv_at hl 4 rfl) ?_
          refine lv_imul hx hb dX3_figures_42 ?_
          refine lv_aload_n hx hb dX3_figures_43 rfl (lv_at hl 0 rfl) ?_
          refine lv_aload_n hx hb dX3_figures_44 rfl (lv_at hl 0 rfl) ?_
          refine gget hx hb hts in_X3 hown hE.1.1 (hI.1.o 1 rfl) rfl 3 (by decide) q331 rfl dX3_figures_45 ?_
          obtain ⟨x48, ex48, hf⟩ := obd hf
          refine pccallI (rest := [.int ((10 : Int32) * x4)]) hx hb hts hown hE hI hml hl.1 (mX3_byteAt Λ Λn τ (co τ 1 3) _ ex48) (cwX3_byteAt_X3 hts ⟨Nat.le_of_ble_eq_true rfl, Nat.le_of_ble_eq_true rfl⟩) (hI.1.o 1 rfl) rfl rfl ⟨leC hu1, leC hu2⟩ rfl rfl (lv_room (Nat.le_of_ble_eq_true rfl)) dX3_figures_48 (fun H locs hI => ?_)
          refine lv_iadd hx hb dX3_figures_51 ?_
          refine lv_bipush (v := (48 : Int32)) hx hb dX3_figures_52 (by decide) ?_
          refine lv_isub hx hb dX3_figures_54 ?_
          refine lv_goto (tgt := 60) hx hb dX3_figures_55 (by decide) ?_
          obtain ⟨v60, ev60, hf⟩ := obd hf
          refine nmI ev60 ?_
          refine lv_istore (lv' := [(4, .int v60), (0, .ref (o + 61)), (1, .int a1), (2, .int a2), (3, .int a3)]) hx hb dX3_figures_60 hl (by decide) rfl (fun ls hl => ?_)
          refine lv_aload_n hx hb dX3_figures_62 rfl (lv_at hl 1 rfl) ?_
          refine lv_dup hx hb dX3_figures_63 rfl ?_
          refine gget hx hb hts in_X3 hown hE.1.1 (hI.1.o 1 rfl) rfl 3 (by decide) q331 rfl dX3_figures_64 ?_
          refine lv_iconst (v := (1 : Int32)) hx hb dX3_figures_67 (by decide) ?_
          refine lv_iadd hx hb dX3_figures_68 ?_
          obtain ⟨t69_7, et69_7, hf⟩ := obd hf
          refine gput hx hb hts in_X3 tyX3 tyX3_ok nmX3 hown hE.1.1 (hI.1.o 1 rfl) rfl 3 (by decide) q331 rfl rfl rfl (Nat.le_of_ble_eq_true rfl) dX3_figures_69 (fun H locs h1 h2 h3 h4 => ?_)
          have hI := hI.putO (σ' := cou τ (mup (co τ) 1 3 ((co τ 1 3) + (1 : Int32)))) (P := 1) rfl rfl ⟨rfl, rfl⟩ h1 h2 h3 h4
          rw [Option.some.inj et69_7] at hI
          refine lv_goto (tgt := 7) hx hb dX3_figures_72 (by decide) ?_
          exact ih t69_7 v60 _ H locs ls hf _ _ hu1 hu2 hI (lv_sub hl [1, 2, 3, 4, 0] rfl)
  refine lv_aload_n hx hb dX3_figures_0 rfl (lv_at hl 0 rfl) ?_
  obtain ⟨t1, et1, hf⟩ := obd hf
  refine pccallV (rest := []) hx hb hts hown hE hI hml hl.1 (mX3_blanks Λ Λn τ _ et1) (cwX3_blanks_X3 hts ⟨Nat.le_of_ble_eq_true rfl, Nat.le_of_ble_eq_true rfl⟩) (hI.1.o 1 rfl) rfl rfl ⟨leC hu1, leC hu2⟩ rfl rfl (lv_room (Nat.le_of_ble_eq_true rfl)) dX3_figures_1 (fun H locs hI => ?_)
  refine lv_iconst (v := (0 : Int32)) hx hb dX3_figures_4 (by decide) ?_
  refine lv_istore (lv' := [(4, .int (0 : Int32)), (0, .ref (o + 61)), (1, .int a1), (2, .int a2), (3, .int a3)]) hx hb dX3_figures_5 hl (by decide) rfl (fun ls hl => ?_)
  exact hJ7 FU t1 (0 : Int32) _ H locs ls hf _ _ hu1 hu2 hI (lv_sub hl [1, 2, 3, 4, 0] rfl)

theorem cwX3_figures_X3 {R : Room} {s : State} {args : Array Value} {fr lo mc ms : Nat} (hts : ∀ w ∈ lw_all, w.before args s = true) (hR : fr + 1 ≤ R.frames ∧ 8 + (5 + 11) + lo ≤ R.locals) : CallW R s args RX3 RX3 65 yX3_figures cX3_figures 5 (some .int) (ws_ yX3_figures cX3_figures 5 (some .int)) ({ frames := fr, cells := mc, slots := ms, locals := lo }) mc ms 3 :=
  cwV 3 hts (lw_V q1307 q1308 q1309 q136 q1310) rfl rfl rfl (by decide +kernel) hR
def X3_number (τ : Cs) (a1 : Int32) (a2 : Int32) : Option (Po × Kc) :=
  (X3_figures τ a1 a2 (3 : Int32)).bind fun x4 => addc x4.2 (Sum.elim (fun (v4 : Int32 × Cs) =>
    some (.inl (v4.1, v4.2), (0, 0))) (fun (u : Cs) => some (.inr u, (0, 0))) x4.1)
set_option maxHeartbeats 4000000 in
theorem mX3_number (Λ : Nat → Nat → (Nat → Int32) → Int32) (Λn : Nat → Int32) (τ : Cs) (a1 : Int32) (a2 : Int32) (out : Po) (T : Kc) (hf : X3_number τ a1 a2 = some (out, T)) : PXi yX3_number cX3_number 3 (some .int) 9 344 Λ Λn (fun o aK aF => [.ref (o + 61), .int a1, .int a2]) out T τ := by
  refine PXi.of (by decide) (fun _ _ _ => Nat.le_of_ble_eq_true rfl) ?_
  intro p l e s m args below meth c D8 D J o z aK aV G Ld aF N9 Q ls hst hx hb hml hown hts hEP hret hxx hI hl
  have hE := hEP.1
  obtain ⟨H, eH⟩ : ∃ H, H = s.heap := ⟨_, rfl⟩
  obtain ⟨locs, eL⟩ : ∃ L : List Loc, L = [] := ⟨_, rfl⟩
  rw [← eH, ← eL] at hI ⊢
  have hown : s.vm.findClass RX3 = some m.cls := hown
  have hu1 : 0 + T.1 = T.1 := Nat.zero_add _
  have hu2 : 0 + T.2 = T.2 := Nat.zero_add _
  have hl : lv_has ls 3 [(0, .ref (o + 61)), (1, .int a1), (2, .int a2)] := hl
  unfold X3_number at hf
  refine lv_aload_n hx hb dX3_number_0 rfl (lv_at hl 0 rfl) ?_
  refine lv_iload_n hx hb dX3_number_1 rfl (lv_at hl 1 rfl) ?_
  refine lv_iload_n hx hb dX3_number_2 rfl (lv_at hl 2 rfl) ?_
  refine lv_iconst (v := (3 : Int32)) hx hb dX3_number_3 (by decide) ?_
  obtain ⟨x4, K4, C4, ex4, hf, eC1, eC2⟩ := pcl_e hf
  refine pcallI (rest := []) hx hb hts hst hown hEP hI hml hl.1 (mX3_figures Λ Λn τ a1 a2 (3 : Int32) _ _ ex4) (cwX3_figures_X3 hts ⟨Nat.le_of_ble_eq_true rfl, Nat.le_of_ble_eq_true rfl⟩) (hI.1.o 1 rfl) rfl rfl ⟨(show 0 + K4.1 ≤ T.1 by omega), (show 0 + K4.2 ≤ T.2 by omega)⟩ rfl rfl (lv_room (Nat.le_of_ble_eq_true rfl)) dX3_number_4 (fun E ce q9 σ' H locs ho hn hI h1 h2 h3 => by subst ho; replace hf := selR hf; obtain ⟨ho, hK⟩ := pr_e hf; exact hxx H locs 4 ls _ _ _ E ce q9 _ hI ho hn h1 h2 h3 (show 0 + K4.1 ≤ T.1 by omega) (show 0 + K4.2 ≤ T.2 by omega)) (fun v4 H locs ho hI => ?_)
  subst ho
  replace hf := selL hf
  obtain ⟨cu4, ecu4⟩ : ∃ n, n = 0 + K4.1 := ⟨_, rfl⟩
  obtain ⟨su4, esu4⟩ : ∃ n, n = 0 + K4.2 := ⟨_, rfl⟩
  rw [← ecu4, ← esu4]
  replace hu1 : cu4 + C4.1 = T.1 := by omega
  replace hu2 : su4 + C4.2 = T.2 := by omega
  clear ecu4 esu4 eC1 eC2
  obtain ⟨ho, -⟩ := pr_e hf
  exact hret H locs 7 ls _ _ _ _ hI ho (leC hu1) (leC hu2) dX3_number_7

def X3_goesDeeper (τ : Cs) : Option (Po × Kc) :=
  if (co τ 1 6) = (6 : Int32) then
    some (.inr τ, (1, 6))
  else
    (some (cou τ (mup (co τ) 1 6 ((co τ 1 6) + (1 : Int32))))).bind fun t21 =>
    some (.inl ((0 : Int32), t21), (0, 0))
set_option maxHeartbeats 4000000 in
theorem mX3_goesDeeper (Λ : Nat → Nat → (Nat → Int32) → Int32) (Λn : Nat → Int32) (τ : Cs) (out : Po) (T : Kc) (hf : X3_goesDeeper τ = some (out, T)) : PXv yX3_goesDeeper cX3_goesDeeper 1 (none) 8 320 Λ Λn (fun o aK aF => [.ref (o + 61)]) out T τ := by
  refine PXv.of (by decide) (fun _ _ _ => Nat.le_of_ble_eq_true rfl) ?_
  intro p l e s m args below meth c D8 D J o z aK aV G Ld aF N9 Q ls hst hx hb hml hown hts hEP hret hxx hI hl
  have hE := hEP.1
  obtain ⟨H, eH⟩ : ∃ H, H = s.heap := ⟨_, rfl⟩
  obtain ⟨locs, eL⟩ : ∃ L : List Loc, L = [] := ⟨_, rfl⟩
  rw [← eH, ← eL] at hI ⊢
  have hown : s.vm.findClass RX3 = some m.cls := hown
  have hu1 : 0 + T.1 = T.1 := Nat.zero_add _
  have hu2 : 0 + T.2 = T.2 := Nat.zero_add _
  have hl : lv_has ls 1 [(0, .ref (o + 61))] := hl
  unfold X3_goesDeeper at hf
  refine lv_aload_n hx hb dX3_goesDeeper_0 rfl (lv_at hl 0 rfl) ?_
  refine gget hx hb hts in_X3 hown hE.1.1 (hI.1.o 1 rfl) rfl 6 (by decide) q336 rfl dX3_goesDeeper_1 ?_
  refine lv_bipush (v := (6 : Int32)) hx hb dX3_goesDeeper_4 (by decide) ?_
  refine lv_icmp_ne (tgt := 14) hx hb dX3_goesDeeper_6 (by decide) (fun hc => ?_) (fun hc => ?_)
  · replace hf := ineg hc hf
    refine lv_aload_n hx hb dX3_goesDeeper_14 rfl (lv_at hl 0 rfl) ?_
    refine lv_dup hx hb dX3_goesDeeper_15 rfl ?_
    refine gget hx hb hts in_X3 hown hE.1.1 (hI.1.o 1 rfl) rfl 6 (by decide) q336 rfl dX3_goesDeeper_16 ?_
    refine lv_iconst (v := (1 : Int32)) hx hb dX3_goesDeeper_19 (by decide) ?_
    refine lv_iadd hx hb dX3_goesDeeper_20 ?_
    obtain ⟨t21, et21, hf⟩ := obd hf
    refine gput hx hb hts in_X3 tyX3 tyX3_ok nmX3 hown hE.1.1 (hI.1.o 1 rfl) rfl 6 (by decide) q336 rfl rfl rfl (Nat.le_of_ble_eq_true rfl) dX3_goesDeeper_21 (fun H locs h1 h2 h3 h4 => ?_)
    have hI := hI.putO (σ' := cou τ (mup (co τ) 1 6 ((co τ 1 6) + (1 : Int32)))) (P := 1) rfl rfl ⟨rfl, rfl⟩ h1 h2 h3 h4
    rw [Option.some.inj et21] at hI
    obtain ⟨ho, -⟩ := pr_e hf
    exact hret H locs 24 ls _ _ _ hI ho (leC hu1) (leC hu2) dX3_goesDeeper_24
  · replace hf := ipos hc hf
    refine lv_aload_n hx hb dX3_goesDeeper_9 rfl (lv_at hl 0 rfl) ?_
    obtain ⟨ho, hK⟩ := pr_e hf
    have hK1 : T.1 = 1 := congrArg Prod.fst hK
    have hK2 : T.2 = 6 := congrArg Prod.snd hK
    have hu3 : 0 + 1 = T.1 := by omega
    have hu4 : 0 + 6 = T.2 := by omega
    refine pwrong (rest := []) hx hb hts hst hown hEP hI hml hl.1 (cwX3_wrong_X3 hts ⟨Nat.le_of_ble_eq_true rfl, Nat.le_of_ble_eq_true rfl⟩) ⟨Nat.le_of_eq hu3, Nat.le_of_eq hu4⟩ (lv_room (Nat.le_of_ble_eq_true rfl)) dX3_goesDeeper_10 dX3_goesDeeper_13 (fun E ce q9 H locs hn hI h1 h2 h3 => ?_)
    exact hxx H locs 13 ls _ _ _ E ce q9 _ hI ho hn h1 h2 h3 (Nat.le_of_eq hu3) (Nat.le_of_eq hu4)

theorem cwX3_word_X1 {R : Room} {s : State} {args : Array Value} {fr lo mc ms : Nat} (hts : ∀ w ∈ lw_all, w.before args s = true) (hR : fr + 1 ≤ R.frames ∧ 8 + (3 + 11) + lo ≤ R.locals) : CallW R s args RX1 RX3 84 yX3_word cX3_word 3 (some (.object "java/lang/String")) (ws_ yX3_word cX3_word 3 (some (.object "java/lang/String"))) ({ frames := fr, cells := mc, slots := ms, locals := lo }) mc ms 0 :=
  cwV 0 hts (lw_V q862 q863 q864 q136 q865) rfl rfl rfl (by decide +kernel) hR
theorem cwJ6_equals_X1 {R : Room} {s : State} {args : Array Value} {fr lo : Nat} (hts : ∀ w ∈ lw_all, w.before args s = true) (hR : fr + 1 ≤ R.frames ∧ 8 + (3 + 11) + lo ≤ R.locals) : CallW R s args RX1 RJ6 88 yJ6_equals cJ6_equals 3 (some .boolean) (ws_ yJ6_equals cJ6_equals 3 (some .boolean)) ({ frames := fr, cells := 0, slots := 0, locals := lo }) 0 0 1 :=
  cwV 1 hts (lw_V q1285 q1286 q1287 q147 q1288) rfl rfl rfl (by decide +kernel) hR
theorem cwX3_wrong_X1 {R : Room} {s : State} {args : Array Value} {fr lo : Nat} (hts : ∀ w ∈ lw_all, w.before args s = true) (hR : fr + 1 ≤ R.frames ∧ 8 + (1 + 11) + lo ≤ R.locals) : CallW R s args RX1 RX3 94 yX3_wrong cX3_wrong 1 (some (.object "LateInks$Wrong")) (ws_ yX3_wrong cX3_wrong 1 (some (.object "LateInks$Wrong"))) ({ frames := fr, cells := 1, slots := 6, locals := lo }) 1 6 0 :=
  cwV 0 hts (lw_V q1195 q1196 q1197 q136 q1198) rfl rfl rfl (by decide +kernel) hR
def X1_needs (τ : Cs) (i1 : Nat) : Option (Po × Kc) :=
  (X3_word τ).bind fun t4 => addc (wC t4, wS t4) (
  if (weq t4 i1) = (0 : Int32) then
    some (.inr t4, (1, 6))
  else
    some (.inl ((0 : Int32), t4), (0, 0)))
set_option maxHeartbeats 4000000 in
theorem mX1_needs (Λ : Nat → Nat → (Nat → Int32) → Int32) (Λn : Nat → Int32) (τ : Cs) (i1 : Nat) (hi1 : i1 < nS) (out : Po) (T : Kc) (hf : X1_needs τ i1 = some (out, T)) : PXv yX1_needs cX1_needs 2 (none) 15 1522 Λ Λn (fun o aK aF => [.ref o, .ref (aK i1)]) out T τ := by
  refine PXv.of (by decide) (fun _ _ _ => Nat.le_of_ble_eq_true rfl) ?_
  intro p l e s m args below meth c D8 D J o z aK aV G Ld aF N9 Q ls hst hx hb hml hown hts hEP hret hxx hI hl
  have hE := hEP.1
  obtain ⟨H, eH⟩ : ∃ H, H = s.heap := ⟨_, rfl⟩
  obtain ⟨locs, eL⟩ : ∃ L : List Loc, L = [] := ⟨_, rfl⟩
  rw [← eH, ← eL] at hI ⊢
  have hown : s.vm.findClass RX1 = some m.cls := hown
  have hu1 : 0 + T.1 = T.1 := Nat.zero_add _
  have hu2 : 0 + T.2 = T.2 := Nat.zero_add _
  have hl : lv_has ls 2 [(0, .ref o), (1, .ref (aK i1))] := hl
  unfold X1_needs at hf
  refine lv_aload_n hx hb dX1_needs_0 rfl (lv_at hl 0 rfl) ?_
  refine gget hx hb hts in_X1 hown hE.1.1 (hI.1.o 0 rfl) rfl 4 (by decide) q469 rfl dX1_needs_1 ?_
  obtain ⟨t4, et4, hf⟩ := obd hf
  obtain ⟨C4, hf, eC1, eC2⟩ := addc_e hf
  replace eC1 : T.1 = wC t4 + C4.1 := eC1
  replace eC2 : T.2 = wS t4 + C4.2 := eC2
  refine pword (rest := []) hx hb hts hown hEP hI hml hl.1 et4 (cwX3_word_X1 hts ⟨Nat.le_of_ble_eq_true rfl, Nat.le_of_ble_eq_true rfl⟩) ⟨(show 0 + wC t4 ≤ T.1 by omega), (show 0 + wS t4 ≤ T.2 by omega)⟩ (lv_room (Nat.le_of_ble_eq_true rfl)) dX1_needs_4 (fun st4 vast4 H locs hI hsst4 => ?_)
  obtain ⟨cu4, ecu4⟩ : ∃ n, n = 0 + wC t4 := ⟨_, rfl⟩
  obtain ⟨su4, esu4⟩ : ∃ n, n = 0 + wS t4 := ⟨_, rfl⟩
  rw [← ecu4, ← esu4]
  replace hu1 : cu4 + C4.1 = T.1 := by omega
  replace hu2 : su4 + C4.2 = T.2 := by omega
  clear ecu4 esu4 eC1 eC2
  refine lv_aload_n hx hb dX1_needs_7 rfl (lv_at hl 1 rfl) ?_
  refine pequals (rest := []) hx hb hts hown hEP hI hml hl.1 hsst4 hi1 (cwJ6_equals_X1 hts ⟨Nat.le_of_ble_eq_true rfl, Nat.le_of_ble_eq_true rfl⟩) ⟨leC hu1, leC hu2⟩ (lv_room (Nat.le_of_ble_eq_true rfl)) dX1_needs_8 (fun H locs hI hsst4 => ?_)
  refine lv_if_ne (tgt := 22) hx hb dX1_needs_11 (by decide) (fun hc => ?_) (fun hc => ?_)
  · replace hf := ineg hc hf
    obtain ⟨ho, -⟩ := pr_e hf
    exact hret H locs 22 ls _ _ _ hI ho (leC hu1) (leC hu2) dX1_needs_22
  · replace hf := ipos hc hf
    refine lv_aload_n hx hb dX1_needs_14 rfl (lv_at hl 0 rfl) ?_
    refine gget hx hb hts in_X1 hown hE.1.1 (hI.1.o 0 rfl) rfl 4 (by decide) q469 rfl dX1_needs_15 ?_
    obtain ⟨ho, hK⟩ := pr_e hf
    have hK1 : C4.1 = 1 := congrArg Prod.fst hK
    have hK2 : C4.2 = 6 := congrArg Prod.snd hK
    have hu3 : cu4 + 1 = T.1 := by omega
    have hu4 : su4 + 6 = T.2 := by omega
    refine pwrong (rest := []) hx hb hts hst hown hEP hI hml hl.1 (cwX3_wrong_X1 hts ⟨Nat.le_of_ble_eq_true rfl, Nat.le_of_ble_eq_true rfl⟩) ⟨Nat.le_of_eq hu3, Nat.le_of_eq hu4⟩ (lv_room (Nat.le_of_ble_eq_true rfl)) dX1_needs_18 dX1_needs_21 (fun E ce q9 H locs hn hI h1 h2 h3 => ?_)
    exact hxx H locs 21 ls _ _ _ E ce q9 _ hI ho hn h1 h2 h3 (Nat.le_of_eq hu3) (Nat.le_of_eq hu4)

theorem cwX1_needs_X1 {R : Room} {s : State} {args : Array Value} {fr lo mc ms : Nat} (hts : ∀ w ∈ lw_all, w.before args s = true) (hR : fr + 1 ≤ R.frames ∧ 8 + (2 + 11) + lo ≤ R.locals) : CallW R s args RX1 RX1 98 yX1_needs cX1_needs 2 (none) (ws_ yX1_needs cX1_needs 2 (none)) ({ frames := fr, cells := mc, slots := ms, locals := lo }) mc ms 1 :=
  cwV 1 hts (lw_V q1321 q1323 qs23 q133 q1324) rfl rfl rfl (by decide +kernel) hR
theorem cwX3_number_X1 {R : Room} {s : State} {args : Array Value} {fr lo mc ms : Nat} (hts : ∀ w ∈ lw_all, w.before args s = true) (hR : fr + 1 ≤ R.frames ∧ 8 + (3 + 11) + lo ≤ R.locals) : CallW R s args RX1 RX3 102 yX3_number cX3_number 3 (some .int) (ws_ yX3_number cX3_number 3 (some .int)) ({ frames := fr, cells := mc, slots := ms, locals := lo }) mc ms 2 :=
  cwV 2 hts (lw_V q1303 q1304 q1305 q136 q1306) rfl rfl rfl (by decide +kernel) hR
def X1_after (τ : Cs) (i1 : Nat) (a2 : Int32) (a3 : Int32) : Option (Po × Kc) :=
  (X1_needs τ i1).bind fun x2 => addc x2.2 (Sum.elim (fun (v2 : Int32 × Cs) =>
    (X3_number v2.2 a2 a3).bind fun x11 => addc x11.2 (Sum.elim (fun (v11 : Int32 × Cs) =>
      some (.inl (v11.1, v11.2), (0, 0))) (fun (u : Cs) => some (.inr u, (0, 0))) x11.1)) (fun (u : Cs) => some (.inr u, (0, 0))) x2.1)
set_option maxHeartbeats 4000000 in
theorem mX1_after (Λ : Nat → Nat → (Nat → Int32) → Int32) (Λn : Nat → Int32) (τ : Cs) (i1 : Nat) (a2 : Int32) (a3 : Int32) (hi1 : i1 < nS) (out : Po) (T : Kc) (hf : X1_after τ i1 a2 a3 = some (out, T)) : PXi yX1_after cX1_after 4 (some .int) 16 1543 Λ Λn (fun o aK aF => [.ref o, .ref (aK i1), .int a2, .int a3]) out T τ := by
  refine PXi.of (by decide) (fun _ _ _ => Nat.le_of_ble_eq_true rfl) ?_
  intro p l e s m args below meth c D8 D J o z aK aV G Ld aF N9 Q ls hst hx hb hml hown hts hEP hret hxx hI hl
  have hE := hEP.1
  obtain ⟨H, eH⟩ : ∃ H, H = s.heap := ⟨_, rfl⟩
  obtain ⟨locs, eL⟩ : ∃ L : List Loc, L = [] := ⟨_, rfl⟩
  rw [← eH, ← eL] at hI ⊢
  have hown : s.vm.findClass RX1 = some m.cls := hown
  have hu1 : 0 + T.1 = T.1 := Nat.zero_add _
  have hu2 : 0 + T.2 = T.2 := Nat.zero_add _
  have hl : lv_has ls 4 [(0, .ref o), (1, .ref (aK i1)), (2, .int a2), (3, .int a3)] := hl
  unfold X1_after at hf
  refine lv_aload_n hx hb dX1_after_0 rfl (lv_at hl 0 rfl) ?_
  refine lv_aload_n hx hb dX1_after_1 rfl (lv_at hl 1 rfl) ?_
  obtain ⟨x2, K2, C2, ex2, hf, eC1, eC2⟩ := pcl_e hf
  refine pcallV (rest := []) hx hb hts hst hown hEP hI hml hl.1 (mX1_needs Λ Λn τ i1 hi1 _ _ ex2) (cwX1_needs_X1 hts ⟨Nat.le_of_ble_eq_true rfl, Nat.le_of_ble_eq_true rfl⟩) (hI.1.o 0 rfl) rfl rfl ⟨(show 0 + K2.1 ≤ T.1 by omega), (show 0 + K2.2 ≤ T.2 by omega)⟩ rfl rfl (lv_room (Nat.le_of_ble_eq_true rfl)) dX1_after_2 (fun E ce q9 σ' H locs ho hn hI h1 h2 h3 => by subst ho; replace hf := selR hf; obtain ⟨ho, hK⟩ := pr_e hf; exact hxx H locs 2 ls _ _ _ E ce q9 _ hI ho hn h1 h2 h3 (show 0 + K2.1 ≤ T.1 by omega) (show 0 + K2.2 ≤ T.2 by omega)) (fun v2 H locs ho hI => ?_)
  subst ho
  replace hf := selL hf
  obtain ⟨cu2, ecu2⟩ : ∃ n, n = 0 + K2.1 := ⟨_, rfl⟩
  obtain ⟨su2, esu2⟩ : ∃ n, n = 0 + K2.2 := ⟨_, rfl⟩
  rw [← ecu2, ← esu2]
  replace hu1 : cu2 + C2.1 = T.1 := by omega
  replace hu2 : su2 + C2.2 = T.2 := by omega
  clear ecu2 esu2 eC1 eC2
  refine lv_aload_n hx hb dX1_after_5 rfl (lv_at hl 0 rfl) ?_
  refine gget hx hb hts in_X1 hown hE.1.1 (hI.1.o 0 rfl) rfl 4 (by decide) q469 rfl dX1_after_6 ?_
  refine lv_iload_n hx hb dX1_after_9 rfl (lv_at hl 2 rfl) ?_
  refine lv_iload_n hx hb dX1_after_10 rfl (lv_at hl 3 rfl) ?_
  obtain ⟨x11, K11, C11, ex11, hf, eC1, eC2⟩ := pcl_e hf
  refine pcallI (rest := []) hx hb hts hst hown hEP hI hml hl.1 (mX3_number Λ Λn v2.2 a2 a3 _ _ ex11) (cwX3_number_X1 hts ⟨Nat.le_of_ble_eq_true rfl, Nat.le_of_ble_eq_true rfl⟩) (hI.1.o 1 rfl) rfl rfl ⟨(show cu2 + K11.1 ≤ T.1 by omega), (show su2 + K11.2 ≤ T.2 by omega)⟩ rfl rfl (lv_room (Nat.le_of_ble_eq_true rfl)) dX1_after_11 (fun E ce q9 σ' H locs ho hn hI h1 h2 h3 => by subst ho; replace hf := selR hf; obtain ⟨ho, hK⟩ := pr_e hf; exact hxx H locs 11 ls _ _ _ E ce q9 _ hI ho hn h1 h2 h3 (show cu2 + K11.1 ≤ T.1 by omega) (show su2 + K11.2 ≤ T.2 by omega)) (fun v11 H locs ho hI => ?_)
  subst ho
  replace hf := selL hf
  obtain ⟨cu11, ecu11⟩ : ∃ n, n = cu2 + K11.1 := ⟨_, rfl⟩
  obtain ⟨su11, esu11⟩ : ∃ n, n = su2 + K11.2 := ⟨_, rfl⟩
  rw [← ecu11, ← esu11]
  replace hu1 : cu11 + C11.1 = T.1 := by omega
  replace hu2 : su11 + C11.2 = T.2 := by omega
  clear ecu11 esu11 eC1 eC2
  obtain ⟨ho, -⟩ := pr_e hf
  exact hret H locs 14 ls _ _ _ _ hI ho (leC hu1) (leC hu2) dX1_after_14

def X1_aParty (τ : Cs) (k1 : Nat) : Option (Po × Kc) :=
  if (cw τ k1 0 1) = (6 : Int32) then
    some (.inr τ, (1, 6))
  else
    (X3_number τ (0 : Int32) (999 : Int32)).bind fun x33 => addc x33.2 (Sum.elim (fun (v33 : Int32 × Cs) =>
      (stof 6 (cw v33.2 k1 10) (cw τ k1 0 1) v33.1).bind fun g36 =>
      (some (cwu v33.2 k1 (mset (cw v33.2 k1) 10 g36))).bind fun t36 =>
      (stof 6 (cw t36 k1 14) (cw t36 k1 0 1) (0 : Int32)).bind fun g46 =>
      (some (cwu t36 k1 (mset (cw t36 k1) 14 g46))).bind fun t46 =>
      (some (cwu t46 k1 (mup (cw t46 k1) 0 1 ((cw t46 k1 0 1) + (1 : Int32))))).bind fun t54 =>
      some (.inl ((0 : Int32), t54), (0, 0))) (fun (u : Cs) => some (.inr u, (0, 0))) x33.1)
set_option maxHeartbeats 4000000 in
theorem mX1_aParty (Λ : Nat → Nat → (Nat → Int32) → Int32) (Λn : Nat → Int32) (τ : Cs) (k1 : Nat) (hk1 : k1 < 5) (out : Po) (T : Kc) (hf : X1_aParty τ k1 = some (out, T)) : PXv yX1_aParty cX1_aParty 2 (none) 10 366 Λ Λn (fun o aK aF => [.ref o, .ref (wA o k1)]) out T τ := by
  refine PXv.of (by decide) (fun _ _ _ => Nat.le_of_ble_eq_true rfl) ?_
  intro p l e s m args below meth c D8 D J o z aK aV G Ld aF N9 Q ls hst hx hb hml hown hts hEP hret hxx hI hl
  have hE := hEP.1
  obtain ⟨H, eH⟩ : ∃ H, H = s.heap := ⟨_, rfl⟩
  obtain ⟨locs, eL⟩ : ∃ L : List Loc, L = [] := ⟨_, rfl⟩
  rw [← eH, ← eL] at hI ⊢
  have hown : s.vm.findClass RX1 = some m.cls := hown
  have hu1 : 0 + T.1 = T.1 := Nat.zero_add _
  have hu2 : 0 + T.2 = T.2 := Nat.zero_add _
  have hl : lv_has ls 2 [(0, .ref o), (1, .ref (wA o k1))] := hl
  unfold X1_aParty at hf
  refine lv_aload_n hx hb dX1_aParty_0 rfl (lv_at hl 1 rfl) ?_
  refine ggetN hx hb hts in_X2 hown hE.1.1 (hI.1.w k1 hk1 0 rfl) rfl 1 (by decide) (hE.1.2.2.f 1 rfl) rfl dX1_aParty_1 ?_
  refine lv_bipush (v := (6 : Int32)) hx hb dX1_aParty_4 (by decide) ?_
  refine lv_icmp_ne (tgt := 17) hx hb dX1_aParty_6 (by decide) (fun hc => ?_) (fun hc => ?_)
  · replace hf := ineg hc hf
    refine lv_aload_n hx hb dX1_aParty_17 rfl (lv_at hl 1 rfl) ?_
    refine ggetN hx hb hts in_X2 hown hE.1.1 (hI.1.w k1 hk1 0 rfl) rfl 10 (by decide) (hE.1.2.2.f 12 rfl) rfl dX1_aParty_18 ?_
    refine lv_aload_n hx hb dX1_aParty_21 rfl (lv_at hl 1 rfl) ?_
    refine ggetN hx hb hts in_X2 hown hE.1.1 (hI.1.w k1 hk1 0 rfl) rfl 1 (by decide) (hE.1.2.2.f 1 rfl) rfl dX1_aParty_22 ?_
    refine lv_aload_n hx hb dX1_aParty_25 rfl (lv_at hl 0 rfl) ?_
    refine gget hx hb hts in_X1 hown hE.1.1 (hI.1.o 0 rfl) rfl 4 (by decide) q469 rfl dX1_aParty_26 ?_
    refine lv_iconst (v := (0 : Int32)) hx hb dX1_aParty_29 (by decide) ?_
    refine lv_sipush (v := (999 : Int32)) hx hb dX1_aParty_30 (by decide) ?_
    obtain ⟨x33, K33, C33, ex33, hf, eC1, eC2⟩ := pcl_e hf
    refine pcallI (rest := [.int (cw τ k1 0 1), .ref (wA o k1 + 2)]) hx hb hts hst hown hEP hI hml hl.1 (mX3_number Λ Λn τ (0 : Int32) (999 : Int32) _ _ ex33) (cwX3_number_X1 hts ⟨Nat.le_of_ble_eq_true rfl, Nat.le_of_ble_eq_true rfl⟩) (hI.1.o 1 rfl) rfl rfl ⟨(show 0 + K33.1 ≤ T.1 by omega), (show 0 + K33.2 ≤ T.2 by omega)⟩ rfl rfl (lv_room (Nat.le_of_ble_eq_true rfl)) dX1_aParty_33 (fun E ce q9 σ' H locs ho hn hI h1 h2 h3 => by subst ho; replace hf := selR hf; obtain ⟨ho, hK⟩ := pr_e hf; exact hxx H locs 33 ls _ _ _ E ce q9 _ hI ho hn h1 h2 h3 (show 0 + K33.1 ≤ T.1 by omega) (show 0 + K33.2 ≤ T.2 by omega)) (fun v33 H locs ho hI => ?_)
    subst ho
    replace hf := selL hf
    obtain ⟨cu33, ecu33⟩ : ∃ n, n = 0 + K33.1 := ⟨_, rfl⟩
    obtain ⟨su33, esu33⟩ : ∃ n, n = 0 + K33.2 := ⟨_, rfl⟩
    rw [← ecu33, ← esu33]
    replace hu1 : cu33 + C33.1 = T.1 := by omega
    replace hu2 : su33 + C33.2 = T.2 := by omega
    clear ecu33 esu33 eC1 eC2
    obtain ⟨g36, eg36, hf⟩ := obd hf
    obtain ⟨t36, et36, hf⟩ := obd hf
    refine gast hx hb hE.1.1 0 (hI.1.w k1 hk1 2 rfl) rfl eg36 dX1_aParty_36 (fun H locs h1 h2 h3 h4 => ?_)
    have hI := hI.putW (k := k1) (w' := mset (cw v33.2 k1) 10 g36) (P := 2) hk1 rfl rfl h1 h2 h3 h4
    rw [Option.some.inj et36] at hI
    refine lv_aload_n hx hb dX1_aParty_37 rfl (lv_at hl 1 rfl) ?_
    refine ggetN hx hb hts in_X2 hown hE.1.1 (hI.1.w k1 hk1 0 rfl) rfl 14 (by decide) (hE.1.2.2.f 17 rfl) rfl dX1_aParty_38 ?_
    refine lv_aload_n hx hb dX1_aParty_41 rfl (lv_at hl 1 rfl) ?_
    refine ggetN hx hb hts in_X2 hown hE.1.1 (hI.1.w k1 hk1 0 rfl) rfl 1 (by decide) (hE.1.2.2.f 1 rfl) rfl dX1_aParty_42 ?_
    refine lv_iconst (v := (0 : Int32)) hx hb dX1_aParty_45 (by decide) ?_
    obtain ⟨g46, eg46, hf⟩ := obd hf
    obtain ⟨t46, et46, hf⟩ := obd hf
    refine gzst hx hb hE.1.1 1 (hI.1.w k1 hk1 6 rfl) rfl (by decide) eg46 dX1_aParty_46 (fun H locs h1 h2 h3 h4 => ?_)
    have hI := hI.putW (k := k1) (w' := mset (cw t36 k1) 14 g46) (P := 6) hk1 rfl rfl h1 h2 h3 h4
    rw [Option.some.inj et46] at hI
    refine lv_aload_n hx hb dX1_aParty_47 rfl (lv_at hl 1 rfl) ?_
    refine lv_dup hx hb dX1_aParty_48 rfl ?_
    refine ggetN hx hb hts in_X2 hown hE.1.1 (hI.1.w k1 hk1 0 rfl) rfl 1 (by decide) (hE.1.2.2.f 1 rfl) rfl dX1_aParty_49 ?_
    refine lv_iconst (v := (1 : Int32)) hx hb dX1_aParty_52 (by decide) ?_
    refine lv_iadd hx hb dX1_aParty_53 ?_
    obtain ⟨t54, et54, hf⟩ := obd hf
    refine gputN hx hb hts in_X2 tyX2 tyX2_ok nmX2 hown hE.1.1 (hI.1.w k1 hk1 0 rfl) rfl 1 (by decide) (hE.1.2.2.f 1 rfl) rfl rfl rfl (Nat.le_of_ble_eq_true rfl) dX1_aParty_54 (fun H locs h1 h2 h3 h4 => ?_)
    have hI := hI.putW (k := k1) (P := 0) (w' := mup (cw t46 k1) 0 1 ((cw t46 k1 0 1) + (1 : Int32))) hk1 rfl rfl h1 h2 h3 h4
    rw [Option.some.inj et54] at hI
    obtain ⟨ho, -⟩ := pr_e hf
    exact hret H locs 57 ls _ _ _ hI ho (leC hu1) (leC hu2) dX1_aParty_57
  · replace hf := ipos hc hf
    refine lv_aload_n hx hb dX1_aParty_9 rfl (lv_at hl 0 rfl) ?_
    refine gget hx hb hts in_X1 hown hE.1.1 (hI.1.o 0 rfl) rfl 4 (by decide) q469 rfl dX1_aParty_10 ?_
    obtain ⟨ho, hK⟩ := pr_e hf
    have hK1 : T.1 = 1 := congrArg Prod.fst hK
    have hK2 : T.2 = 6 := congrArg Prod.snd hK
    have hu3 : 0 + 1 = T.1 := by omega
    have hu4 : 0 + 6 = T.2 := by omega
    refine pwrong (rest := []) hx hb hts hst hown hEP hI hml hl.1 (cwX3_wrong_X1 hts ⟨Nat.le_of_ble_eq_true rfl, Nat.le_of_ble_eq_true rfl⟩) ⟨Nat.le_of_eq hu3, Nat.le_of_eq hu4⟩ (lv_room (Nat.le_of_ble_eq_true rfl)) dX1_aParty_13 dX1_aParty_16 (fun E ce q9 H locs hn hI h1 h2 h3 => ?_)
    exact hxx H locs 16 ls _ _ _ E ce q9 _ hI ho hn h1 h2 h3 (Nat.le_of_eq hu3) (Nat.le_of_eq hu4)

theorem cwX1_after_X1 {R : Room} {s : State} {args : Array Value} {fr lo mc ms : Nat} (hts : ∀ w ∈ lw_all, w.before args s = true) (hR : fr + 1 ≤ R.frames ∧ 8 + (4 + 11) + lo ≤ R.locals) : CallW R s args RX1 RX1 123 yX1_after cX1_after 4 (some .int) (ws_ yX1_after cX1_after 4 (some .int)) ({ frames := fr, cells := mc, slots := ms, locals := lo }) mc ms 3 :=
  cwV 3 hts (lw_V q1317 q1319 qs22 q133 q1320) rfl rfl rfl (by decide +kernel) hR
theorem cwX3_passes_X1 {R : Room} {s : State} {args : Array Value} {fr lo mc ms : Nat} (hts : ∀ w ∈ lw_all, w.before args s = true) (hR : fr + 1 ≤ R.frames ∧ 8 + (2 + 11) + lo ≤ R.locals) : CallW R s args RX1 RX3 131 yX3_passes cX3_passes 2 (some .boolean) (ws_ yX3_passes cX3_passes 2 (some .boolean)) ({ frames := fr, cells := mc, slots := ms, locals := lo }) mc ms 1 :=
  cwV 1 hts (lw_V q1326 q1327 q1328 q136 q1329) rfl rfl rfl (by decide +kernel) hR
def X1_anInk_J94 (τ : Cs) (k1 : Nat) (y0 : Int32) (y1 : Int32) : Option (Po × Kc) :=
  (stof 6 (cw τ k1 13) y1 y0).bind fun g94 =>
  (some (cwu τ k1 (mset (cw τ k1) 13 g94))).bind fun t94 =>
  (some (cwu t94 k1 (mup (cw t94 k1) 0 2 ((cw t94 k1 0 2) + (1 : Int32))))).bind fun t102 =>
  some (.inl ((0 : Int32), t102), (0, 0))
def X1_anInk_J65 (τ : Cs) (k1 : Nat) (y0 : Int32) (y1 : Int32) : Option (Po × Kc) :=
  (stof 6 (cw τ k1 12) y1 y0).bind fun g65 =>
  (some (cwu τ k1 (mset (cw τ k1) 12 g65))).bind fun t65 =>
  (X3_passes t65 11).bind fun x77 => addc x77.2 (Sum.elim (fun (v77 : Int32 × Cs) =>
    if v77.1 = (0 : Int32) then
      X1_anInk_J94 v77.2 k1 (0 : Int32) (cw t65 k1 0 2)
    else
      (X3_number v77.2 (0 : Int32) (9 : Int32)).bind fun x87 => addc x87.2 (Sum.elim (fun (v87 : Int32 × Cs) =>
        X1_anInk_J94 v87.2 k1 v87.1 (cw t65 k1 0 2)) (fun (u : Cs) => some (.inr u, (0, 0))) x87.1)) (fun (u : Cs) => some (.inr u, (0, 0))) x77.1)
def X1_anInk (τ : Cs) (k1 : Nat) : Option (Po × Kc) :=
  if (cw τ k1 0 2) = (6 : Int32) then
    some (.inr τ, (1, 6))
  else
    (X1_after τ 9 (1 : Int32) (99 : Int32)).bind fun x33 => addc x33.2 (Sum.elim (fun (v33 : Int32 × Cs) =>
      (stof 6 (cw v33.2 k1 11) (cw τ k1 0 2) v33.1).bind fun g36 =>
      (some (cwu v33.2 k1 (mset (cw v33.2 k1) 11 g36))).bind fun t36 =>
      (X3_passes t36 10).bind fun x48 => addc x48.2 (Sum.elim (fun (v48 : Int32 × Cs) =>
        if v48.1 = (0 : Int32) then
          X1_anInk_J65 v48.2 k1 (0 : Int32) (cw t36 k1 0 2)
        else
          (X3_number v48.2 (0 : Int32) (99 : Int32)).bind fun x58 => addc x58.2 (Sum.elim (fun (v58 : Int32 × Cs) =>
            X1_anInk_J65 v58.2 k1 v58.1 (cw t36 k1 0 2)) (fun (u : Cs) => some (.inr u, (0, 0))) x58.1)) (fun (u : Cs) => some (.inr u, (0, 0))) x48.1)) (fun (u : Cs) => some (.inr u, (0, 0))) x33.1)
set_option maxHeartbeats 4000000 in
theorem mX1_anInk (Λ : Nat → Nat → (Nat → Int32) → Int32) (Λn : Nat → Int32) (τ : Cs) (k1 : Nat) (hk1 : k1 < 5) (out : Po) (T : Kc) (hf : X1_anInk τ k1 = some (out, T)) : PXv yX1_anInk cX1_anInk 3 (none) 17 1566 Λ Λn (fun o aK aF => [.ref o, .ref (wA o k1)]) out T τ := by
  refine PXv.of (by decide) (fun _ _ _ => Nat.le_of_ble_eq_true rfl) ?_
  intro p l e s m args below meth c D8 D J o z aK aV G Ld aF N9 Q ls hst hx hb hml hown hts hEP hret hxx hI hl
  have hE := hEP.1
  obtain ⟨H, eH⟩ : ∃ H, H = s.heap := ⟨_, rfl⟩
  obtain ⟨locs, eL⟩ : ∃ L : List Loc, L = [] := ⟨_, rfl⟩
  rw [← eH, ← eL] at hI ⊢
  have hown : s.vm.findClass RX1 = some m.cls := hown
  have hu1 : 0 + T.1 = T.1 := Nat.zero_add _
  have hu2 : 0 + T.2 = T.2 := Nat.zero_add _
  have hl : lv_has ls 3 [(0, .ref o), (1, .ref (wA o k1))] := hl
  unfold X1_anInk at hf
  have hJ94 : ∀ (τ : Cs) (y0 : Int32) (y1 : Int32) (C : Kc) (H : Heap) (locs : List Loc) (ls : Array Slot), X1_anInk_J94 τ k1 y0 y1 = some (out, C) → ∀ (cu su : Nat), cu + C.1 = T.1 → su + C.2 = T.2 → IP D J o Ld N9 s H locs τ → lv_has ls 3 [(1, .ref (wA o k1))] → W p l e ({ frames := 17, cells := T.1, slots := T.2, locals := 1566 } : Room) s m args below meth c H locs cu su Q (F0 m 94 ls [.int y0, .int y1, .ref (wA o k1 + 5)]) := by
    intro τ y0 y1 C H locs ls hf cu su hu1 hu2 hI hl
    unfold X1_anInk_J94 at hf
    obtain ⟨g94, eg94, hf⟩ := obd hf
    obtain ⟨t94, et94, hf⟩ := obd hf
    refine gast hx hb hE.1.1 0 (hI.1.w k1 hk1 5 rfl) rfl eg94 dX1_anInk_94 (fun H locs h1 h2 h3 h4 => ?_)
    have hI := hI.putW (k := k1) (w' := mset (cw τ k1) 13 g94) (P := 5) hk1 rfl rfl h1 h2 h3 h4
    rw [Option.some.inj et94] at hI
    refine lv_aload_n hx hb dX1_anInk_95 rfl (lv_at hl 0 rfl) ?_
    refine lv_dup hx hb dX1_anInk_96 rfl ?_
    refine ggetN hx hb hts in_X2 hown hE.1.1 (hI.1.w k1 hk1 0 rfl) rfl 2 (by decide) (hE.1.2.2.f 3 rfl) rfl dX1_anInk_97 ?_
    refine lv_iconst (v := (1 : Int32)) hx hb dX1_anInk_100 (by decide) ?_
    refine lv_iadd hx hb dX1_anInk_101 ?_
    obtain ⟨t102, et102, hf⟩ := obd hf
    refine gputN hx hb hts in_X2 tyX2 tyX2_ok nmX2 hown hE.1.1 (hI.1.w k1 hk1 0 rfl) rfl 2 (by decide) (hE.1.2.2.f 3 rfl) rfl rfl rfl (Nat.le_of_ble_eq_true rfl) dX1_anInk_102 (fun H locs h1 h2 h3 h4 => ?_)
    have hI := hI.putW (k := k1) (P := 0) (w' := mup (cw t94 k1) 0 2 ((cw t94 k1 0 2) + (1 : Int32))) hk1 rfl rfl h1 h2 h3 h4
    rw [Option.some.inj et102] at hI
    obtain ⟨ho, -⟩ := pr_e hf
    exact hret H locs 105 ls _ _ _ hI ho (leC hu1) (leC hu2) dX1_anInk_105
  have hJ65 : ∀ (τ : Cs) (y0 : Int32) (y1 : Int32) (C : Kc) (H : Heap) (locs : List Loc) (ls : Array Slot), X1_anInk_J65 τ k1 y0 y1 = some (out, C) → ∀ (cu su : Nat), cu + C.1 = T.1 → su + C.2 = T.2 → IP D J o Ld N9 s H locs τ → lv_has ls 3 [(1, .ref (wA o k1)), (2, .ref (o + 61))] → W p l e ({ frames := 17, cells := T.1, slots := T.2, locals := 1566 } : Room) s m args below meth c H locs cu su Q (F0 m 65 ls [.int y0, .int y1, .ref (wA o k1 + 4)]) := by
    intro τ y0 y1 C H locs ls hf cu su hu1 hu2 hI hl
    unfold X1_anInk_J65 at hf
    obtain ⟨g65, eg65, hf⟩ := obd hf
    obtain ⟨t65, et65, hf⟩ := obd hf
    refine gast hx hb hE.1.1 0 (hI.1.w k1 hk1 4 rfl) rfl eg65 dX1_anInk_65 (fun H locs h1 h2 h3 h4 => ?_)
    have hI := hI.putW (k := k1) (w' := mset (cw τ k1) 12 g65) (P := 4) hk1 rfl rfl h1 h2 h3 h4
    rw [Option.some.inj et65] at hI
    refine lv_aload_n hx hb dX1_anInk_66 rfl (lv_at hl 0 rfl) ?_
    refine ggetN hx hb hts in_X2 hown hE.1.1 (hI.1.w k1 hk1 0 rfl) rfl 13 (by decide) (hE.1.2.2.f 16 rfl) rfl dX1_anInk_67 ?_
    refine lv_aload_n hx hb dX1_anInk_70 rfl (lv_at hl 0 rfl) ?_
    refine ggetN hx hb hts in_X2 hown hE.1.1 (hI.1.w k1 hk1 0 rfl) rfl 2 (by decide) (hE.1.2.2.f 3 rfl) rfl dX1_anInk_71 ?_
    refine lv_aload_n hx hb dX1_anInk_74 rfl (lv_at hl 1 rfl) ?_
    refine va_ldcS hx hb hown (hE.1.2.1.at 11 rfl) dX1_anInk_75 ?_
    obtain ⟨x77, K77, C77, ex77, hf, eC1, eC2⟩ := pcl_e hf
    refine pcallI (rest := [.int (cw t65 k1 0 2), .ref (wA o k1 + 5)]) hx hb hts hst hown hEP hI hml hl.1 (mX3_passes Λ Λn t65 11 (by decide) _ _ ex77) (cwX3_passes_X1 hts ⟨Nat.le_of_ble_eq_true rfl, Nat.le_of_ble_eq_true rfl⟩) (hI.1.o 1 rfl) rfl rfl ⟨(show cu + K77.1 ≤ T.1 by omega), (show su + K77.2 ≤ T.2 by omega)⟩ rfl rfl (lv_room (Nat.le_of_ble_eq_true rfl)) dX1_anInk_77 (fun E ce q9 σ' H locs ho hn hI h1 h2 h3 => by subst ho; replace hf := selR hf; obtain ⟨ho, hK⟩ := pr_e hf; exact hxx H locs 77 ls _ _ _ E ce q9 _ hI ho hn h1 h2 h3 (show cu + K77.1 ≤ T.1 by omega) (show su + K77.2 ≤ T.2 by omega)) (fun v77 H locs ho hI => ?_)
    subst ho
    replace hf := selL hf
    obtain ⟨cu77, ecu77⟩ : ∃ n, n = cu + K77.1 := ⟨_, rfl⟩
    obtain ⟨su77, esu77⟩ : ∃ n, n = su + K77.2 := ⟨_, rfl⟩
    rw [← ecu77, ← esu77]
    replace hu1 : cu77 + C77.1 = T.1 := by omega
    replace hu2 : su77 + C77.2 = T.2 := by omega
    clear ecu77 esu77 eC1 eC2
    refine lv_if_eq (tgt := 93) hx hb dX1_anInk_80 (by decide) (fun hc => ?_) (fun hc => ?_)
    · replace hf := ipos hc hf
      refine lv_iconst (v := (0 : Int32)) hx hb dX1_anInk_93 (by decide) ?_
      exact hJ94 v77.2 (0 : Int32) (cw t65 k1 0 2) _ H locs ls hf _ _ hu1 hu2 hI (lv_sub hl [0] rfl)
    · replace hf := ineg hc hf
      refine lv_aload_n hx hb dX1_anInk_83 rfl (lv_at hl 1 rfl) ?_
      refine lv_iconst (v := (0 : Int32)) hx hb dX1_anInk_84 (by decide) ?_
      refine lv_bipush (v := (9 : Int32)) hx hb dX1_anInk_85 (by decide) ?_
      obtain ⟨x87, K87, C87, ex87, hf, eC1, eC2⟩ := pcl_e hf
      refine pcallI (rest := [.int (cw t65 k1 0 2), .ref (wA o k1 + 5)]) hx hb hts hst hown hEP hI hml hl.1 (mX3_number Λ Λn v77.2 (0 : Int32) (9 : Int32) _ _ ex87) (cwX3_number_X1 hts ⟨Nat.le_of_ble_eq_true rfl, Nat.le_of_ble_eq_true rfl⟩) (hI.1.o 1 rfl) rfl rfl ⟨(show cu77 + K87.1 ≤ T.1 by omega), (show su77 + K87.2 ≤ T.2 by omega)⟩ rfl rfl (lv_room (Nat.le_of_ble_eq_true rfl)) dX1_anInk_87 (fun E ce q9 σ' H locs ho hn hI h1 h2 h3 => by subst ho; replace hf := selR hf; obtain ⟨ho, hK⟩ := pr_e hf; exact hxx H locs 87 ls _ _ _ E ce q9 _ hI ho hn h1 h2 h3 (show cu77 + K87.1 ≤ T.1 by omega) (show su77 + K87.2 ≤ T.2 by omega)) (fun v87 H locs ho hI => ?_)
      subst ho
      replace hf := selL hf
      obtain ⟨cu87, ecu87⟩ : ∃ n, n = cu77 + K87.1 := ⟨_, rfl⟩
      obtain ⟨su87, esu87⟩ : ∃ n, n = su77 + K87.2 := ⟨_, rfl⟩
      rw [← ecu87, ← esu87]
      replace hu1 : cu87 + C87.1 = T.1 := by omega
      replace hu2 : su87 + C87.2 = T.2 := by omega
      clear ecu87 esu87 eC1 eC2
      refine lv_goto (tgt := 94) hx hb dX1_anInk_90 (by decide) ?_
      exact hJ94 v87.2 v87.1 (cw t65 k1 0 2) _ H locs ls hf _ _ hu1 hu2 hI (lv_sub hl [0] rfl)
  refine lv_aload_n hx hb dX1_anInk_0 rfl (lv_at hl 0 rfl) ?_
  refine gget hx hb hts in_X1 hown hE.1.1 (hI.1.o 0 rfl) rfl 4 (by decide) q469 rfl dX1_anInk_1 ?_
  refine lv_astore_n (lv' := [(2, .ref (o + 61)), (0, .ref o), (1, .ref (wA o k1))]) hx hb dX1_anInk_4 rfl hl (by decide) rfl (fun ls hl => ?_)
  refine lv_aload_n hx hb dX1_anInk_5 rfl (lv_at hl 2 rfl) ?_
  refine ggetN hx hb hts in_X2 hown hE.1.1 (hI.1.w k1 hk1 0 rfl) rfl 2 (by decide) (hE.1.2.2.f 3 rfl) rfl dX1_anInk_6 ?_
  refine lv_bipush (v := (6 : Int32)) hx hb dX1_anInk_9 (by decide) ?_
  refine lv_icmp_ne (tgt := 19) hx hb dX1_anInk_11 (by decide) (fun hc => ?_) (fun hc => ?_)
  · replace hf := ineg hc hf
    refine lv_aload_n hx hb dX1_anInk_19 rfl (lv_at hl 2 rfl) ?_
    refine ggetN hx hb hts in_X2 hown hE.1.1 (hI.1.w k1 hk1 0 rfl) rfl 11 (by decide) (hE.1.2.2.f 13 rfl) rfl dX1_anInk_20 ?_
    refine lv_aload_n hx hb dX1_anInk_23 rfl (lv_at hl 2 rfl) ?_
    refine ggetN hx hb hts in_X2 hown hE.1.1 (hI.1.w k1 hk1 0 rfl) rfl 2 (by decide) (hE.1.2.2.f 3 rfl) rfl dX1_anInk_24 ?_
    refine lv_aload_n hx hb dX1_anInk_27 rfl (lv_at hl 1 rfl) ?_
    refine va_ldcS hx hb hown (hE.1.2.1.at 9 rfl) dX1_anInk_28 ?_
    refine lv_iconst (v := (1 : Int32)) hx hb dX1_anInk_30 (by decide) ?_
    refine lv_bipush (v := (99 : Int32)) hx hb dX1_anInk_31 (by decide) ?_
    obtain ⟨x33, K33, C33, ex33, hf, eC1, eC2⟩ := pcl_e hf
    refine pcallI (rest := [.int (cw τ k1 0 2), .ref (wA o k1 + 3)]) hx hb hts hst hown hEP hI hml hl.1 (mX1_after Λ Λn τ 9 (1 : Int32) (99 : Int32) (by decide) _ _ ex33) (cwX1_after_X1 hts ⟨Nat.le_of_ble_eq_true rfl, Nat.le_of_ble_eq_true rfl⟩) (hI.1.o 0 rfl) rfl rfl ⟨(show 0 + K33.1 ≤ T.1 by omega), (show 0 + K33.2 ≤ T.2 by omega)⟩ rfl rfl (lv_room (Nat.le_of_ble_eq_true rfl)) dX1_anInk_33 (fun E ce q9 σ' H locs ho hn hI h1 h2 h3 => by subst ho; replace hf := selR hf; obtain ⟨ho, hK⟩ := pr_e hf; exact hxx H locs 33 ls _ _ _ E ce q9 _ hI ho hn h1 h2 h3 (show 0 + K33.1 ≤ T.1 by omega) (show 0 + K33.2 ≤ T.2 by omega)) (fun v33 H locs ho hI => ?_)
    subst ho
    replace hf := selL hf
    obtain ⟨cu33, ecu33⟩ : ∃ n, n = 0 + K33.1 := ⟨_, rfl⟩
    obtain ⟨su33, esu33⟩ : ∃ n, n = 0 + K33.2 := ⟨_, rfl⟩
    rw [← ecu33, ← esu33]
    replace hu1 : cu33 + C33.1 = T.1 := by omega
    replace hu2 : su33 + C33.2 = T.2 := by omega
    clear ecu33 esu33 eC1 eC2
    obtain ⟨g36, eg36, hf⟩ := obd hf
    obtain ⟨t36, et36, hf⟩ := obd hf
    refine gast hx hb hE.1.1 0 (hI.1.w k1 hk1 3 rfl) rfl eg36 dX1_anInk_36 (fun H locs h1 h2 h3 h4 => ?_)
    have hI := hI.putW (k := k1) (w' := mset (cw v33.2 k1) 11 g36) (P := 3) hk1 rfl rfl h1 h2 h3 h4
    rw [Option.some.inj et36] at hI
    refine lv_aload_n hx hb dX1_anInk_37 rfl (lv_at hl 2 rfl) ?_
    refine ggetN hx hb hts in_X2 hown hE.1.1 (hI.1.w k1 hk1 0 rfl) rfl 12 (by decide) (hE.1.2.2.f 15 rfl) rfl dX1_anInk_38 ?_
    refine lv_aload_n hx hb dX1_anInk_41 rfl (lv_at hl 2 rfl) ?_
    refine ggetN hx hb hts in_X2 hown hE.1.1 (hI.1.w k1 hk1 0 rfl) rfl 2 (by decide) (hE.1.2.2.f 3 rfl) rfl dX1_anInk_42 ?_
    refine lv_aload_n hx hb dX1_anInk_45 rfl (lv_at hl 0 rfl) ?_
    refine va_ldcS hx hb hown (hE.1.2.1.at 10 rfl) dX1_anInk_46 ?_
    obtain ⟨x48, K48, C48, ex48, hf, eC1, eC2⟩ := pcl_e hf
    refine pcallI (rest := [.int (cw t36 k1 0 2), .ref (wA o k1 + 4)]) hx hb hts hst hown hEP hI hml hl.1 (mX3_passes Λ Λn t36 10 (by decide) _ _ ex48) (cwX3_passes_X1 hts ⟨Nat.le_of_ble_eq_true rfl, Nat.le_of_ble_eq_true rfl⟩) (hI.1.o 1 rfl) rfl rfl ⟨(show cu33 + K48.1 ≤ T.1 by omega), (show su33 + K48.2 ≤ T.2 by omega)⟩ rfl rfl (lv_room (Nat.le_of_ble_eq_true rfl)) dX1_anInk_48 (fun E ce q9 σ' H locs ho hn hI h1 h2 h3 => by subst ho; replace hf := selR hf; obtain ⟨ho, hK⟩ := pr_e hf; exact hxx H locs 48 ls _ _ _ E ce q9 _ hI ho hn h1 h2 h3 (show cu33 + K48.1 ≤ T.1 by omega) (show su33 + K48.2 ≤ T.2 by omega)) (fun v48 H locs ho hI => ?_)
    subst ho
    replace hf := selL hf
    obtain ⟨cu48, ecu48⟩ : ∃ n, n = cu33 + K48.1 := ⟨_, rfl⟩
    obtain ⟨su48, esu48⟩ : ∃ n, n = su33 + K48.2 := ⟨_, rfl⟩
    rw [← ecu48, ← esu48]
    replace hu1 : cu48 + C48.1 = T.1 := by omega
    replace hu2 : su48 + C48.2 = T.2 := by omega
    clear ecu48 esu48 eC1 eC2
    refine lv_if_eq (tgt := 64) hx hb dX1_anInk_51 (by decide) (fun hc => ?_) (fun hc => ?_)
    · replace hf := ipos hc hf
      refine lv_iconst (v := (0 : Int32)) hx hb dX1_anInk_64 (by decide) ?_
      exact hJ65 v48.2 (0 : Int32) (cw t36 k1 0 2) _ H locs ls hf _ _ hu1 hu2 hI (lv_sub hl [2, 0] rfl)
    · replace hf := ineg hc hf
      refine lv_aload_n hx hb dX1_anInk_54 rfl (lv_at hl 0 rfl) ?_
      refine lv_iconst (v := (0 : Int32)) hx hb dX1_anInk_55 (by decide) ?_
      refine lv_bipush (v := (99 : Int32)) hx hb dX1_anInk_56 (by decide) ?_
      obtain ⟨x58, K58, C58, ex58, hf, eC1, eC2⟩ := pcl_e hf
      refine pcallI (rest := [.int (cw t36 k1 0 2), .ref (wA o k1 + 4)]) hx hb hts hst hown hEP hI hml hl.1 (mX3_number Λ Λn v48.2 (0 : Int32) (99 : Int32) _ _ ex58) (cwX3_number_X1 hts ⟨Nat.le_of_ble_eq_true rfl, Nat.le_of_ble_eq_true rfl⟩) (hI.1.o 1 rfl) rfl rfl ⟨(show cu48 + K58.1 ≤ T.1 by omega), (show su48 + K58.2 ≤ T.2 by omega)⟩ rfl rfl (lv_room (Nat.le_of_ble_eq_true rfl)) dX1_anInk_58 (fun E ce q9 σ' H locs ho hn hI h1 h2 h3 => by subst ho; replace hf := selR hf; obtain ⟨ho, hK⟩ := pr_e hf; exact hxx H locs 58 ls _ _ _ E ce q9 _ hI ho hn h1 h2 h3 (show cu48 + K58.1 ≤ T.1 by omega) (show su48 + K58.2 ≤ T.2 by omega)) (fun v58 H locs ho hI => ?_)
      subst ho
      replace hf := selL hf
      obtain ⟨cu58, ecu58⟩ : ∃ n, n = cu48 + K58.1 := ⟨_, rfl⟩
      obtain ⟨su58, esu58⟩ : ∃ n, n = su48 + K58.2 := ⟨_, rfl⟩
      rw [← ecu58, ← esu58]
      replace hu1 : cu58 + C58.1 = T.1 := by omega
      replace hu2 : su58 + C58.2 = T.2 := by omega
      clear ecu58 esu58 eC1 eC2
      refine lv_goto (tgt := 65) hx hb dX1_anInk_61 (by decide) ?_
      exact hJ65 v58.2 v58.1 (cw t36 k1 0 2) _ H locs ls hf _ _ hu1 hu2 hI (lv_sub hl [2, 0] rfl)
  · replace hf := ipos hc hf
    refine lv_aload_n hx hb dX1_anInk_14 rfl (lv_at hl 0 rfl) ?_
    obtain ⟨ho, hK⟩ := pr_e hf
    have hK1 : T.1 = 1 := congrArg Prod.fst hK
    have hK2 : T.2 = 6 := congrArg Prod.snd hK
    have hu3 : 0 + 1 = T.1 := by omega
    have hu4 : 0 + 6 = T.2 := by omega
    refine pwrong (rest := []) hx hb hts hst hown hEP hI hml hl.1 (cwX3_wrong_X1 hts ⟨Nat.le_of_ble_eq_true rfl, Nat.le_of_ble_eq_true rfl⟩) ⟨Nat.le_of_eq hu3, Nat.le_of_eq hu4⟩ (lv_room (Nat.le_of_ble_eq_true rfl)) dX1_anInk_15 dX1_anInk_18 (fun E ce q9 H locs hn hI h1 h2 h3 => ?_)
    exact hxx H locs 18 ls _ _ _ E ce q9 _ hI ho hn h1 h2 h3 (Nat.le_of_eq hu3) (Nat.le_of_eq hu4)

def X1_aDeed_J155 (τ : Cs) (k1 : Nat) (x3 : Int32) (x4 : Int32) (x5 : Int32) (x6 : Int32) (x7 : Int32) (x8 : Int32) (x9 : Int32) (y0 : Int32) : Option (Po × Kc) :=
  (X2_isWritten (cw τ k1) x4 x5 x6 x7 x8).bind fun x168 =>
  (some (cwu τ k1 x168)).bind fun t168 =>
  (stof 8 (cw t168 k1 21) x3 x9).bind fun g178 =>
  (some (cwu t168 k1 (mset (cw t168 k1) 21 g178))).bind fun t178 =>
  (stof 8 (cw t178 k1 22) x3 y0).bind fun g186 =>
  (some (cwu t178 k1 (mset (cw t178 k1) 22 g186))).bind fun t186 =>
  some (.inl ((0 : Int32), t186), (0, 0))
def X1_aDeed_J132 (τ : Cs) (k1 : Nat) (x3 : Int32) (x4 : Int32) (x5 : Int32) (x6 : Int32) (x7 : Int32) (x8 : Int32) (y0 : Int32) : Option (Po × Kc) :=
  (X3_passes τ 17).bind fun x137 => addc x137.2 (Sum.elim (fun (v137 : Int32 × Cs) =>
    if v137.1 = (0 : Int32) then
      X1_aDeed_J155 v137.2 k1 x3 x4 x5 x6 x7 x8 y0 (-1 : Int32)
    else
      (X3_number v137.2 (0 : Int32) (x3 - (1 : Int32))).bind fun x148 => addc x148.2 (Sum.elim (fun (v148 : Int32 × Cs) =>
        X1_aDeed_J155 v148.2 k1 x3 x4 x5 x6 x7 x8 y0 v148.1) (fun (u : Cs) => some (.inr u, (0, 0))) x148.1)) (fun (u : Cs) => some (.inr u, (0, 0))) x137.1)
def X1_aDeed_J109 (τ : Cs) (k1 : Nat) (x3 : Int32) (x4 : Int32) (x5 : Int32) (x6 : Int32) (x7 : Int32) (y0 : Int32) : Option (Po × Kc) :=
  (X3_passes τ 16).bind fun x114 => addc x114.2 (Sum.elim (fun (v114 : Int32 × Cs) =>
    if v114.1 = (0 : Int32) then
      X1_aDeed_J132 v114.2 k1 x3 x4 x5 x6 x7 y0 (-1 : Int32)
    else
      (X3_number v114.2 (0 : Int32) (x3 - (1 : Int32))).bind fun x125 => addc x125.2 (Sum.elim (fun (v125 : Int32 × Cs) =>
        X1_aDeed_J132 v125.2 k1 x3 x4 x5 x6 x7 y0 v125.1) (fun (u : Cs) => some (.inr u, (0, 0))) x125.1)) (fun (u : Cs) => some (.inr u, (0, 0))) x114.1)
def X1_aDeed (τ : Cs) (k1 : Nat) : Option (Po × Kc) :=
  (some (cw τ k1 0 3)).bind fun v9 =>
  if v9 = (8 : Int32) then
    some (.inr τ, (1, 6))
  else
    (X1_after τ 3 (0 : Int32) ((cw τ k1 0 2) - (1 : Int32))).bind fun x31 => addc x31.2 (Sum.elim (fun (v31 : Int32 × Cs) =>
      (X1_after v31.2 12 (0 : Int32) ((cw v31.2 k1 0 1) - (1 : Int32))).bind fun x46 => addc x46.2 (Sum.elim (fun (v46 : Int32 × Cs) =>
        (X1_after v46.2 13 (0 : Int32) ((cw v46.2 k1 0 1) - (1 : Int32))).bind fun x61 => addc x61.2 (Sum.elim (fun (v61 : Int32 × Cs) =>
          if v61.1 = v46.1 then
            some (.inr v61.2, (1, 6))
          else
            (X1_after v61.2 14 (0 : Int32) (99 : Int32)).bind fun x84 => addc x84.2 (Sum.elim (fun (v84 : Int32 × Cs) =>
              (X3_passes v84.2 15).bind fun x92 => addc x92.2 (Sum.elim (fun (v92 : Int32 × Cs) =>
                if v92.1 = (0 : Int32) then
                  X1_aDeed_J109 v92.2 k1 v9 v31.1 v46.1 v61.1 v84.1 (0 : Int32)
                else
                  (X3_number v92.2 (0 : Int32) (20 : Int32)).bind fun x102 => addc x102.2 (Sum.elim (fun (v102 : Int32 × Cs) =>
                    X1_aDeed_J109 v102.2 k1 v9 v31.1 v46.1 v61.1 v84.1 v102.1) (fun (u : Cs) => some (.inr u, (0, 0))) x102.1)) (fun (u : Cs) => some (.inr u, (0, 0))) x92.1)) (fun (u : Cs) => some (.inr u, (0, 0))) x84.1)) (fun (u : Cs) => some (.inr u, (0, 0))) x61.1)) (fun (u : Cs) => some (.inr u, (0, 0))) x46.1)) (fun (u : Cs) => some (.inr u, (0, 0))) x31.1)
set_option maxHeartbeats 4000000 in
theorem mX1_aDeed (Λ : Nat → Nat → (Nat → Int32) → Int32) (Λn : Nat → Int32) (τ : Cs) (k1 : Nat) (hk1 : k1 < 5) (out : Po) (T : Kc) (hf : X1_aDeed τ k1 = some (out, T)) : PXv yX1_aDeed cX1_aDeed 11 (none) 17 1566 Λ Λn (fun o aK aF => [.ref o, .ref (wA o k1)]) out T τ := by
  refine PXv.of (by decide) (fun _ _ _ => Nat.le_of_ble_eq_true rfl) ?_
  intro p l e s m args below meth c D8 D J o z aK aV G Ld aF N9 Q ls hst hx hb hml hown hts hEP hret hxx hI hl
  have hE := hEP.1
  obtain ⟨H, eH⟩ : ∃ H, H = s.heap := ⟨_, rfl⟩
  obtain ⟨locs, eL⟩ : ∃ L : List Loc, L = [] := ⟨_, rfl⟩
  rw [← eH, ← eL] at hI ⊢
  have hown : s.vm.findClass RX1 = some m.cls := hown
  have hu1 : 0 + T.1 = T.1 := Nat.zero_add _
  have hu2 : 0 + T.2 = T.2 := Nat.zero_add _
  have hl : lv_has ls 11 [(0, .ref o), (1, .ref (wA o k1))] := hl
  unfold X1_aDeed at hf
  have hJ155 : ∀ (τ : Cs) (x3 : Int32) (x4 : Int32) (x5 : Int32) (x6 : Int32) (x7 : Int32) (x8 : Int32) (x9 : Int32) (y0 : Int32) (C : Kc) (H : Heap) (locs : List Loc) (ls : Array Slot), X1_aDeed_J155 τ k1 x3 x4 x5 x6 x7 x8 x9 y0 = some (out, C) → ∀ (cu su : Nat), cu + C.1 = T.1 → su + C.2 = T.2 → IP D J o Ld N9 s H locs τ → lv_has ls 11 [(1, .ref (wA o k1)), (3, .int x3), (4, .int x4), (5, .int x5), (6, .int x6), (7, .int x7), (8, .int x8), (9, .int x9)] → W p l e ({ frames := 17, cells := T.1, slots := T.2, locals := 1566 } : Room) s m args below meth c H locs cu su Q (F0 m 155 ls [.int y0]) := by
    intro τ x3 x4 x5 x6 x7 x8 x9 y0 C H locs ls hf cu su hu1 hu2 hI hl
    unfold X1_aDeed_J155 at hf
    refine lv_istore (lv' := [(10, .int y0), (1, .ref (wA o k1)), (3, .int x3), (4, .int x4), (5, .int x5), (6, .int x6), (7, .int x7), (8, .int x8), (9, .int x9)]) hx hb dX1_aDeed_155 hl (by decide) rfl (fun ls hl => ?_)
    refine lv_aload_n hx hb dX1_aDeed_157 rfl (lv_at hl 1 rfl) ?_
    refine lv_iload hx hb dX1_aDeed_158 (lv_at hl 3 rfl) ?_
    refine lv_iload hx hb dX1_aDeed_160 (lv_at hl 4 rfl) ?_
    refine lv_iload hx hb dX1_aDeed_162 (lv_at hl 5 rfl) ?_
    refine lv_iload hx hb dX1_aDeed_164 (lv_at hl 6 rfl) ?_
    refine lv_iload hx hb dX1_aDeed_166 (lv_at hl 7 rfl) ?_
    obtain ⟨x168, ex168, hf⟩ := obd hf
    obtain ⟨t168, et168, hf⟩ := obd hf
    refine pcworldV (rest := []) hx hb hts hown hE hI hml hl.1 (mX2_isWritten (cw τ k1) x4 x5 x6 x7 x8 _ ex168) hk1 (cwX2_isWritten_X1 hts ⟨Nat.le_of_ble_eq_true rfl, Nat.le_of_ble_eq_true rfl⟩) et168 ⟨leC hu1, leC hu2⟩ rfl rfl (lv_room (Nat.le_of_ble_eq_true rfl)) dX1_aDeed_168 (fun H locs hI => ?_)
    refine lv_aload_n hx hb dX1_aDeed_171 rfl (lv_at hl 1 rfl) ?_
    refine ggetN hx hb hts in_X2 hown hE.1.1 (hI.1.w k1 hk1 0 rfl) rfl 21 (by decide) (hE.1.2.2.f 28 rfl) rfl dX1_aDeed_172 ?_
    refine lv_iload_n hx hb dX1_aDeed_175 rfl (lv_at hl 2 rfl) ?_
    refine lv_iload hx hb dX1_aDeed_176 (lv_at hl 8 rfl) ?_
    obtain ⟨g178, eg178, hf⟩ := obd hf
    obtain ⟨t178, et178, hf⟩ := obd hf
    refine gast hx hb hE.1.1 0 (hI.1.w k1 hk1 13 rfl) rfl eg178 dX1_aDeed_178 (fun H locs h1 h2 h3 h4 => ?_)
    have hI := hI.putW (k := k1) (w' := mset (cw t168 k1) 21 g178) (P := 13) hk1 rfl rfl h1 h2 h3 h4
    rw [Option.some.inj et178] at hI
    refine lv_aload_n hx hb dX1_aDeed_179 rfl (lv_at hl 1 rfl) ?_
    refine ggetN hx hb hts in_X2 hown hE.1.1 (hI.1.w k1 hk1 0 rfl) rfl 22 (by decide) (hE.1.2.2.f 29 rfl) rfl dX1_aDeed_180 ?_
    refine lv_iload_n hx hb dX1_aDeed_183 rfl (lv_at hl 2 rfl) ?_
    refine lv_iload hx hb dX1_aDeed_184 (lv_at hl 0 rfl) ?_
    obtain ⟨g186, eg186, hf⟩ := obd hf
    obtain ⟨t186, et186, hf⟩ := obd hf
    refine gast hx hb hE.1.1 0 (hI.1.w k1 hk1 14 rfl) rfl eg186 dX1_aDeed_186 (fun H locs h1 h2 h3 h4 => ?_)
    have hI := hI.putW (k := k1) (w' := mset (cw t178 k1) 22 g186) (P := 14) hk1 rfl rfl h1 h2 h3 h4
    rw [Option.some.inj et186] at hI
    obtain ⟨ho, -⟩ := pr_e hf
    exact hret H locs 187 ls _ _ _ hI ho (leC hu1) (leC hu2) dX1_aDeed_187
  have hJ132 : ∀ (τ : Cs) (x3 : Int32) (x4 : Int32) (x5 : Int32) (x6 : Int32) (x7 : Int32) (x8 : Int32) (y0 : Int32) (C : Kc) (H : Heap) (locs : List Loc) (ls : Array Slot), X1_aDeed_J132 τ k1 x3 x4 x5 x6 x7 x8 y0 = some (out, C) → ∀ (cu su : Nat), cu + C.1 = T.1 → su + C.2 = T.2 → IP D J o Ld N9 s H locs τ → lv_has ls 11 [(1, .ref (wA o k1)), (2, .ref (o + 61)), (3, .int x3), (4, .int x4), (5, .int x5), (6, .int x6), (7, .int x7), (8, .int x8)] → W p l e ({ frames := 17, cells := T.1, slots := T.2, locals := 1566 } : Room) s m args below meth c H locs cu su Q (F0 m 132 ls [.int y0]) := by
    intro τ x3 x4 x5 x6 x7 x8 y0 C H locs ls hf cu su hu1 hu2 hI hl
    unfold X1_aDeed_J132 at hf
    refine lv_istore (lv' := [(9, .int y0), (1, .ref (wA o k1)), (2, .ref (o + 61)), (3, .int x3), (4, .int x4), (5, .int x5), (6, .int x6), (7, .int x7), (8, .int x8)]) hx hb dX1_aDeed_132 hl (by decide) rfl (fun ls hl => ?_)
    refine lv_aload_n hx hb dX1_aDeed_134 rfl (lv_at hl 2 rfl) ?_
    refine va_ldcS hx hb hown (hE.1.2.1.at 17 rfl) dX1_aDeed_135 ?_
    obtain ⟨x137, K137, C137, ex137, hf, eC1, eC2⟩ := pcl_e hf
    refine pcallI (rest := []) hx hb hts hst hown hEP hI hml hl.1 (mX3_passes Λ Λn τ 17 (by decide) _ _ ex137) (cwX3_passes_X1 hts ⟨Nat.le_of_ble_eq_true rfl, Nat.le_of_ble_eq_true rfl⟩) (hI.1.o 1 rfl) rfl rfl ⟨(show cu + K137.1 ≤ T.1 by omega), (show su + K137.2 ≤ T.2 by omega)⟩ rfl rfl (lv_room (Nat.le_of_ble_eq_true rfl)) dX1_aDeed_137 (fun E ce q9 σ' H locs ho hn hI h1 h2 h3 => by subst ho; replace hf := selR hf; obtain ⟨ho, hK⟩ := pr_e hf; exact hxx H locs 137 ls _ _ _ E ce q9 _ hI ho hn h1 h2 h3 (show cu + K137.1 ≤ T.1 by omega) (show su + K137.2 ≤ T.2 by omega)) (fun v137 H locs ho hI => ?_)
    subst ho
    replace hf := selL hf
    obtain ⟨cu137, ecu137⟩ : ∃ n, n = cu + K137.1 := ⟨_, rfl⟩
    obtain ⟨su137, esu137⟩ : ∃ n, n = su + K137.2 := ⟨_, rfl⟩
    rw [← ecu137, ← esu137]
    replace hu1 : cu137 + C137.1 = T.1 := by omega
    replace hu2 : su137 + C137.2 = T.2 := by omega
    clear ecu137 esu137 eC1 eC2
    refine lv_if_eq (tgt := 154) hx hb dX1_aDeed_140 (by decide) (fun hc => ?_) (fun hc => ?_)
    · replace hf := ipos hc hf
      refine lv_iconst (v := (-1 : Int32)) hx hb dX1_aDeed_154 (by decide) ?_
      exact hJ155 v137.2 x3 x4 x5 x6 x7 x8 y0 (-1 : Int32) _ H locs ls hf _ _ hu1 hu2 hI (lv_sub hl [1, 3, 4, 5, 6, 7, 8, 0] rfl)
    · replace hf := ineg hc hf
      refine lv_aload_n hx hb dX1_aDeed_143 rfl (lv_at hl 2 rfl) ?_
      refine lv_iconst (v := (0 : Int32)) hx hb dX1_aDeed_144 (by decide) ?_
      refine lv_iload_n hx hb dX1_aDeed_145 rfl (lv_at hl 3 rfl) ?_
      refine lv_iconst (v := (1 : Int32)) hx hb dX1_aDeed_146 (by decide) ?_
      refine lv_isub hx hb dX1_aDeed_147 ?_
      obtain ⟨x148, K148, C148, ex148, hf, eC1, eC2⟩ := pcl_e hf
      refine pcallI (rest := []) hx hb hts hst hown hEP hI hml hl.1 (mX3_number Λ Λn v137.2 (0 : Int32) (x3 - (1 : Int32)) _ _ ex148) (cwX3_number_X1 hts ⟨Nat.le_of_ble_eq_true rfl, Nat.le_of_ble_eq_true rfl⟩) (hI.1.o 1 rfl) rfl rfl ⟨(show cu137 + K148.1 ≤ T.1 by omega), (show su137 + K148.2 ≤ T.2 by omega)⟩ rfl rfl (lv_room (Nat.le_of_ble_eq_true rfl)) dX1_aDeed_148 (fun E ce q9 σ' H locs ho hn hI h1 h2 h3 => by subst ho; replace hf := selR hf; obtain ⟨ho, hK⟩ := pr_e hf; exact hxx H locs 148 ls _ _ _ E ce q9 _ hI ho hn h1 h2 h3 (show cu137 + K148.1 ≤ T.1 by omega) (show su137 + K148.2 ≤ T.2 by omega)) (fun v148 H locs ho hI => ?_)
      subst ho
      replace hf := selL hf
      obtain ⟨cu148, ecu148⟩ : ∃ n, n = cu137 + K148.1 := ⟨_, rfl⟩
      obtain ⟨su148, esu148⟩ : ∃ n, n = su137 + K148.2 := ⟨_, rfl⟩
      rw [← ecu148, ← esu148]
      replace hu1 : cu148 + C148.1 = T.1 := by omega
      replace hu2 : su148 + C148.2 = T.2 := by omega
      clear ecu148 esu148 eC1 eC2
      refine lv_goto (tgt := 155) hx hb dX1_aDeed_151 (by decide) ?_
      exact hJ155 v148.2 x3 x4 x5 x6 x7 x8 y0 v148.1 _ H locs ls hf _ _ hu1 hu2 hI (lv_sub hl [1, 3, 4, 5, 6, 7, 8, 0] rfl)
  have hJ109 : ∀ (τ : Cs) (x3 : Int32) (x4 : Int32) (x5 : Int32) (x6 : Int32) (x7 : Int32) (y0 : Int32) (C : Kc) (H : Heap) (locs : List Loc) (ls : Array Slot), X1_aDeed_J109 τ k1 x3 x4 x5 x6 x7 y0 = some (out, C) → ∀ (cu su : Nat), cu + C.1 = T.1 → su + C.2 = T.2 → IP D J o Ld N9 s H locs τ → lv_has ls 11 [(1, .ref (wA o k1)), (2, .ref (o + 61)), (3, .int x3), (4, .int x4), (5, .int x5), (6, .int x6), (7, .int x7)] → W p l e ({ frames := 17, cells := T.1, slots := T.2, locals := 1566 } : Room) s m args below meth c H locs cu su Q (F0 m 109 ls [.int y0]) := by
    intro τ x3 x4 x5 x6 x7 y0 C H locs ls hf cu su hu1 hu2 hI hl
    unfold X1_aDeed_J109 at hf
    refine lv_istore (lv' := [(8, .int y0), (1, .ref (wA o k1)), (2, .ref (o + 61)), (3, .int x3), (4, .int x4), (5, .int x5), (6, .int x6), (7, .int x7)]) hx hb dX1_aDeed_109 hl (by decide) rfl (fun ls hl => ?_)
    refine lv_aload_n hx hb dX1_aDeed_111 rfl (lv_at hl 2 rfl) ?_
    refine va_ldcS hx hb hown (hE.1.2.1.at 16 rfl) dX1_aDeed_112 ?_
    obtain ⟨x114, K114, C114, ex114, hf, eC1, eC2⟩ := pcl_e hf
    refine pcallI (rest := []) hx hb hts hst hown hEP hI hml hl.1 (mX3_passes Λ Λn τ 16 (by decide) _ _ ex114) (cwX3_passes_X1 hts ⟨Nat.le_of_ble_eq_true rfl, Nat.le_of_ble_eq_true rfl⟩) (hI.1.o 1 rfl) rfl rfl ⟨(show cu + K114.1 ≤ T.1 by omega), (show su + K114.2 ≤ T.2 by omega)⟩ rfl rfl (lv_room (Nat.le_of_ble_eq_true rfl)) dX1_aDeed_114 (fun E ce q9 σ' H locs ho hn hI h1 h2 h3 => by subst ho; replace hf := selR hf; obtain ⟨ho, hK⟩ := pr_e hf; exact hxx H locs 114 ls _ _ _ E ce q9 _ hI ho hn h1 h2 h3 (show cu + K114.1 ≤ T.1 by omega) (show su + K114.2 ≤ T.2 by omega)) (fun v114 H locs ho hI => ?_)
    subst ho
    replace hf := selL hf
    obtain ⟨cu114, ecu114⟩ : ∃ n, n = cu + K114.1 := ⟨_, rfl⟩
    obtain ⟨su114, esu114⟩ : ∃ n, n = su + K114.2 := ⟨_, rfl⟩
    rw [← ecu114, ← esu114]
    replace hu1 : cu114 + C114.1 = T.1 := by omega
    replace hu2 : su114 + C114.2 = T.2 := by omega
    clear ecu114 esu114 eC1 eC2
    refine lv_if_eq (tgt := 131) hx hb dX1_aDeed_117 (by decide) (fun hc => ?_) (fun hc => ?_)
    · replace hf := ipos hc hf
      refine lv_iconst (v := (-1 : Int32)) hx hb dX1_aDeed_131 (by decide) ?_
      exact hJ132 v114.2 x3 x4 x5 x6 x7 y0 (-1 : Int32) _ H locs ls hf _ _ hu1 hu2 hI (lv_sub hl [1, 2, 3, 4, 5, 6, 7, 0] rfl)
    · replace hf := ineg hc hf
      refine lv_aload_n hx hb dX1_aDeed_120 rfl (lv_at hl 2 rfl) ?_
      refine lv_iconst (v := (0 : Int32)) hx hb dX1_aDeed_121 (by decide) ?_
      refine lv_iload_n hx hb dX1_aDeed_122 rfl (lv_at hl 3 rfl) ?_
      refine lv_iconst (v := (1 : Int32)) hx hb dX1_aDeed_123 (by decide) ?_
      refine lv_isub hx hb dX1_aDeed_124 ?_
      obtain ⟨x125, K125, C125, ex125, hf, eC1, eC2⟩ := pcl_e hf
      refine pcallI (rest := []) hx hb hts hst hown hEP hI hml hl.1 (mX3_number Λ Λn v114.2 (0 : Int32) (x3 - (1 : Int32)) _ _ ex125) (cwX3_number_X1 hts ⟨Nat.le_of_ble_eq_true rfl, Nat.le_of_ble_eq_true rfl⟩) (hI.1.o 1 rfl) rfl rfl ⟨(show cu114 + K125.1 ≤ T.1 by omega), (show su114 + K125.2 ≤ T.2 by omega)⟩ rfl rfl (lv_room (Nat.le_of_ble_eq_true rfl)) dX1_aDeed_125 (fun E ce q9 σ' H locs ho hn hI h1 h2 h3 => by subst ho; replace hf := selR hf; obtain ⟨ho, hK⟩ := pr_e hf; exact hxx H locs 125 ls _ _ _ E ce q9 _ hI ho hn h1 h2 h3 (show cu114 + K125.1 ≤ T.1 by omega) (show su114 + K125.2 ≤ T.2 by omega)) (fun v125 H locs ho hI => ?_)
      subst ho
      replace hf := selL hf
      obtain ⟨cu125, ecu125⟩ : ∃ n, n = cu114 + K125.1 := ⟨_, rfl⟩
      obtain ⟨su125, esu125⟩ : ∃ n, n = su114 + K125.2 := ⟨_, rfl⟩
      rw [← ecu125, ← esu125]
      replace hu1 : cu125 + C125.1 = T.1 := by omega
      replace hu2 : su125 + C125.2 = T.2 := by omega
      clear ecu125 esu125 eC1 eC2
      refine lv_goto (tgt := 132) hx hb dX1_aDeed_128 (by decide) ?_
      exact hJ132 v125.2 x3 x4 x5 x6 x7 y0 v125.1 _ H locs ls hf _ _ hu1 hu2 hI (lv_sub hl [1, 2, 3, 4, 5, 6, 7, 0] rfl)
  refine lv_aload_n hx hb dX1_aDeed_0 rfl (lv_at hl 0 rfl) ?_
  refine gget hx hb hts in_X1 hown hE.1.1 (hI.1.o 0 rfl) rfl 4 (by decide) q469 rfl dX1_aDeed_1 ?_
  refine lv_astore_n (lv' := [(2, .ref (o + 61)), (0, .ref o), (1, .ref (wA o k1))]) hx hb dX1_aDeed_4 rfl hl (by decide) rfl (fun ls hl => ?_)
  refine lv_aload_n hx hb dX1_aDeed_5 rfl (lv_at hl 2 rfl) ?_
  refine ggetN hx hb hts in_X2 hown hE.1.1 (hI.1.w k1 hk1 0 rfl) rfl 3 (by decide) (hE.1.2.2.f 5 rfl) rfl dX1_aDeed_6 ?_
  obtain ⟨v9, ev9, hf⟩ := obd hf
  refine nmI ev9 ?_
  refine lv_istore_n (lv' := [(3, .int v9), (2, .ref (o + 61)), (0, .ref o), (1, .ref (wA o k1))]) hx hb dX1_aDeed_9 rfl hl (by decide) rfl (fun ls hl => ?_)
  refine lv_iload_n hx hb dX1_aDeed_10 rfl (lv_at hl 0 rfl) ?_
  refine lv_bipush (v := (8 : Int32)) hx hb dX1_aDeed_11 (by decide) ?_
  refine lv_icmp_ne (tgt := 21) hx hb dX1_aDeed_13 (by decide) (fun hc => ?_) (fun hc => ?_)
  · replace hf := ineg hc hf
    refine lv_aload_n hx hb dX1_aDeed_21 rfl (lv_at hl 2 rfl) ?_
    refine va_ldcS hx hb hown (hE.1.2.1.at 3 rfl) dX1_aDeed_22 ?_
    refine lv_iconst (v := (0 : Int32)) hx hb dX1_aDeed_24 (by decide) ?_
    refine lv_aload_n hx hb dX1_aDeed_25 rfl (lv_at hl 3 rfl) ?_
    refine ggetN hx hb hts in_X2 hown hE.1.1 (hI.1.w k1 hk1 0 rfl) rfl 2 (by decide) (hE.1.2.2.f 3 rfl) rfl dX1_aDeed_26 ?_
    refine lv_iconst (v := (1 : Int32)) hx hb dX1_aDeed_29 (by decide) ?_
    refine lv_isub hx hb dX1_aDeed_30 ?_
    obtain ⟨x31, K31, C31, ex31, hf, eC1, eC2⟩ := pcl_e hf
    refine pcallI (rest := []) hx hb hts hst hown hEP hI hml hl.1 (mX1_after Λ Λn τ 3 (0 : Int32) ((cw τ k1 0 2) - (1 : Int32)) (by decide) _ _ ex31) (cwX1_after_X1 hts ⟨Nat.le_of_ble_eq_true rfl, Nat.le_of_ble_eq_true rfl⟩) (hI.1.o 0 rfl) rfl rfl ⟨(show 0 + K31.1 ≤ T.1 by omega), (show 0 + K31.2 ≤ T.2 by omega)⟩ rfl rfl (lv_room (Nat.le_of_ble_eq_true rfl)) dX1_aDeed_31 (fun E ce q9 σ' H locs ho hn hI h1 h2 h3 => by subst ho; replace hf := selR hf; obtain ⟨ho, hK⟩ := pr_e hf; exact hxx H locs 31 ls _ _ _ E ce q9 _ hI ho hn h1 h2 h3 (show 0 + K31.1 ≤ T.1 by omega) (show 0 + K31.2 ≤ T.2 by omega)) (fun v31 H locs ho hI => ?_)
    subst ho
    replace hf := selL hf
    obtain ⟨cu31, ecu31⟩ : ∃ n, n = 0 + K31.1 := ⟨_, rfl⟩
    obtain ⟨su31, esu31⟩ : ∃ n, n = 0 + K31.2 := ⟨_, rfl⟩
    rw [← ecu31, ← esu31]
    replace hu1 : cu31 + C31.1 = T.1 := by omega
    replace hu2 : su31 + C31.2 = T.2 := by omega
    clear ecu31 esu31 eC1 eC2
    refine lv_istore (lv' := [(4, .int v31.1), (3, .int v9), (2, .ref (o + 61)), (0, .ref o), (1, .ref (wA o k1))]) hx hb dX1_aDeed_34 hl (by decide) rfl (fun ls hl => ?_)
    refine lv_aload_n hx hb dX1_aDeed_36 rfl (lv_at hl 3 rfl) ?_
    refine va_ldcS hx hb hown (hE.1.2.1.at 12 rfl) dX1_aDeed_37 ?_
    refine lv_iconst (v := (0 : Int32)) hx hb dX1_aDeed_39 (by decide) ?_
    refine lv_aload_n hx hb dX1_aDeed_40 rfl (lv_at hl 4 rfl) ?_
    refine ggetN hx hb hts in_X2 hown hE.1.1 (hI.1.w k1 hk1 0 rfl) rfl 1 (by decide) (hE.1.2.2.f 1 rfl) rfl dX1_aDeed_41 ?_
    refine lv_iconst (v := (1 : Int32)) hx hb dX1_aDeed_44 (by decide) ?_
    refine lv_isub hx hb dX1_aDeed_45 ?_
    obtain ⟨x46, K46, C46, ex46, hf, eC1, eC2⟩ := pcl_e hf
    refine pcallI (rest := []) hx hb hts hst hown hEP hI hml hl.1 (mX1_after Λ Λn v31.2 12 (0 : Int32) ((cw v31.2 k1 0 1) - (1 : Int32)) (by decide) _ _ ex46) (cwX1_after_X1 hts ⟨Nat.le_of_ble_eq_true rfl, Nat.le_of_ble_eq_true rfl⟩) (hI.1.o 0 rfl) rfl rfl ⟨(show cu31 + K46.1 ≤ T.1 by omega), (show su31 + K46.2 ≤ T.2 by omega)⟩ rfl rfl (lv_room (Nat.le_of_ble_eq_true rfl)) dX1_aDeed_46 (fun E ce q9 σ' H locs ho hn hI h1 h2 h3 => by subst ho; replace hf := selR hf; obtain ⟨ho, hK⟩ := pr_e hf; exact hxx H locs 46 ls _ _ _ E ce q9 _ hI ho hn h1 h2 h3 (show cu31 + K46.1 ≤ T.1 by omega) (show su31 + K46.2 ≤ T.2 by omega)) (fun v46 H locs ho hI => ?_)
    subst ho
    replace hf := selL hf
    obtain ⟨cu46, ecu46⟩ : ∃ n, n = cu31 + K46.1 := ⟨_, rfl⟩
    obtain ⟨su46, esu46⟩ : ∃ n, n = su31 + K46.2 := ⟨_, rfl⟩
    rw [← ecu46, ← esu46]
    replace hu1 : cu46 + C46.1 = T.1 := by omega
    replace hu2 : su46 + C46.2 = T.2 := by omega
    clear ecu46 esu46 eC1 eC2
    refine lv_istore (lv' := [(5, .int v46.1), (4, .int v31.1), (3, .int v9), (2, .ref (o + 61)), (0, .ref o), (1, .ref (wA o k1))]) hx hb dX1_aDeed_49 hl (by decide) rfl (fun ls hl => ?_)
    refine lv_aload_n hx hb dX1_aDeed_51 rfl (lv_at hl 4 rfl) ?_
    refine va_ldcS hx hb hown (hE.1.2.1.at 13 rfl) dX1_aDeed_52 ?_
    refine lv_iconst (v := (0 : Int32)) hx hb dX1_aDeed_54 (by decide) ?_
    refine lv_aload_n hx hb dX1_aDeed_55 rfl (lv_at hl 5 rfl) ?_
    refine ggetN hx hb hts in_X2 hown hE.1.1 (hI.1.w k1 hk1 0 rfl) rfl 1 (by decide) (hE.1.2.2.f 1 rfl) rfl dX1_aDeed_56 ?_
    refine lv_iconst (v := (1 : Int32)) hx hb dX1_aDeed_59 (by decide) ?_
    refine lv_isub hx hb dX1_aDeed_60 ?_
    obtain ⟨x61, K61, C61, ex61, hf, eC1, eC2⟩ := pcl_e hf
    refine pcallI (rest := []) hx hb hts hst hown hEP hI hml hl.1 (mX1_after Λ Λn v46.2 13 (0 : Int32) ((cw v46.2 k1 0 1) - (1 : Int32)) (by decide) _ _ ex61) (cwX1_after_X1 hts ⟨Nat.le_of_ble_eq_true rfl, Nat.le_of_ble_eq_true rfl⟩) (hI.1.o 0 rfl) rfl rfl ⟨(show cu46 + K61.1 ≤ T.1 by omega), (show su46 + K61.2 ≤ T.2 by omega)⟩ rfl rfl (lv_room (Nat.le_of_ble_eq_true rfl)) dX1_aDeed_61 (fun E ce q9 σ' H locs ho hn hI h1 h2 h3 => by subst ho; replace hf := selR hf; obtain ⟨ho, hK⟩ := pr_e hf; exact hxx H locs 61 ls _ _ _ E ce q9 _ hI ho hn h1 h2 h3 (show cu46 + K61.1 ≤ T.1 by omega) (show su46 + K61.2 ≤ T.2 by omega)) (fun v61 H locs ho hI => ?_)
    subst ho
    replace hf := selL hf
    obtain ⟨cu61, ecu61⟩ : ∃ n, n = cu46 + K61.1 := ⟨_, rfl⟩
    obtain ⟨su61, esu61⟩ : ∃ n, n = su46 + K61.2 := ⟨_, rfl⟩
    rw [← ecu61, ← esu61]
    replace hu1 : cu61 + C61.1 = T.1 := by omega
    replace hu2 : su61 + C61.2 = T.2 := by omega
    clear ecu61 esu61 eC1 eC2
    refine lv_istore (lv' := [(6, .int v61.1), (5, .int v46.1), (4, .int v31.1), (3, .int v9), (2, .ref (o + 61)), (0, .ref o), (1, .ref (wA o k1))]) hx hb dX1_aDeed_64 hl (by decide) rfl (fun ls hl => ?_)
    refine lv_iload hx hb dX1_aDeed_66 (lv_at hl 0 rfl) ?_
    refine lv_iload hx hb dX1_aDeed_68 (lv_at hl 1 rfl) ?_
    refine lv_icmp_ne (tgt := 78) hx hb dX1_aDeed_70 (by decide) (fun hc => ?_) (fun hc => ?_)
    · replace hf := ineg hc hf
      refine lv_aload_n hx hb dX1_aDeed_78 rfl (lv_at hl 5 rfl) ?_
      refine va_ldcS hx hb hown (hE.1.2.1.at 14 rfl) dX1_aDeed_79 ?_
      refine lv_iconst (v := (0 : Int32)) hx hb dX1_aDeed_81 (by decide) ?_
      refine lv_bipush (v := (99 : Int32)) hx hb dX1_aDeed_82 (by decide) ?_
      obtain ⟨x84, K84, C84, ex84, hf, eC1, eC2⟩ := pcl_e hf
      refine pcallI (rest := []) hx hb hts hst hown hEP hI hml hl.1 (mX1_after Λ Λn v61.2 14 (0 : Int32) (99 : Int32) (by decide) _ _ ex84) (cwX1_after_X1 hts ⟨Nat.le_of_ble_eq_true rfl, Nat.le_of_ble_eq_true rfl⟩) (hI.1.o 0 rfl) rfl rfl ⟨(show cu61 + K84.1 ≤ T.1 by omega), (show su61 + K84.2 ≤ T.2 by omega)⟩ rfl rfl (lv_room (Nat.le_of_ble_eq_true rfl)) dX1_aDeed_84 (fun E ce q9 σ' H locs ho hn hI h1 h2 h3 => by subst ho; replace hf := selR hf; obtain ⟨ho, hK⟩ := pr_e hf; exact hxx H locs 84 ls _ _ _ E ce q9 _ hI ho hn h1 h2 h3 (show cu61 + K84.1 ≤ T.1 by omega) (show su61 + K84.2 ≤ T.2 by omega)) (fun v84 H locs ho hI => ?_)
      subst ho
      replace hf := selL hf
      obtain ⟨cu84, ecu84⟩ : ∃ n, n = cu61 + K84.1 := ⟨_, rfl⟩
      obtain ⟨su84, esu84⟩ : ∃ n, n = su61 + K84.2 := ⟨_, rfl⟩
      rw [← ecu84, ← esu84]
      replace hu1 : cu84 + C84.1 = T.1 := by omega
      replace hu2 : su84 + C84.2 = T.2 := by omega
      clear ecu84 esu84 eC1 eC2
      refine lv_istore (lv' := [(7, .int v84.1), (6, .int v61.1), (5, .int v46.1), (4, .int v31.1), (3, .int v9), (2, .ref (o + 61)), (0, .ref o), (1, .ref (wA o k1))]) hx hb dX1_aDeed_87 hl (by decide) rfl (fun ls hl => ?_)
      refine lv_aload_n hx hb dX1_aDeed_89 rfl (lv_at hl 5 rfl) ?_
      refine va_ldcS hx hb hown (hE.1.2.1.at 15 rfl) dX1_aDeed_90 ?_
      obtain ⟨x92, K92, C92, ex92, hf, eC1, eC2⟩ := pcl_e hf
      refine pcallI (rest := []) hx hb hts hst hown hEP hI hml hl.1 (mX3_passes Λ Λn v84.2 15 (by decide) _ _ ex92) (cwX3_passes_X1 hts ⟨Nat.le_of_ble_eq_true rfl, Nat.le_of_ble_eq_true rfl⟩) (hI.1.o 1 rfl) rfl rfl ⟨(show cu84 + K92.1 ≤ T.1 by omega), (show su84 + K92.2 ≤ T.2 by omega)⟩ rfl rfl (lv_room (Nat.le_of_ble_eq_true rfl)) dX1_aDeed_92 (fun E ce q9 σ' H locs ho hn hI h1 h2 h3 => by subst ho; replace hf := selR hf; obtain ⟨ho, hK⟩ := pr_e hf; exact hxx H locs 92 ls _ _ _ E ce q9 _ hI ho hn h1 h2 h3 (show cu84 + K92.1 ≤ T.1 by omega) (show su84 + K92.2 ≤ T.2 by omega)) (fun v92 H locs ho hI => ?_)
      subst ho
      replace hf := selL hf
      obtain ⟨cu92, ecu92⟩ : ∃ n, n = cu84 + K92.1 := ⟨_, rfl⟩
      obtain ⟨su92, esu92⟩ : ∃ n, n = su84 + K92.2 := ⟨_, rfl⟩
      rw [← ecu92, ← esu92]
      replace hu1 : cu92 + C92.1 = T.1 := by omega
      replace hu2 : su92 + C92.2 = T.2 := by omega
      clear ecu92 esu92 eC1 eC2
      refine lv_if_eq (tgt := 108) hx hb dX1_aDeed_95 (by decide) (fun hc => ?_) (fun hc => ?_)
      · replace hf := ipos hc hf
        refine lv_iconst (v := (0 : Int32)) hx hb dX1_aDeed_108 (by decide) ?_
        exact hJ109 v92.2 v9 v31.1 v46.1 v61.1 v84.1 (0 : Int32) _ H locs ls hf _ _ hu1 hu2 hI (lv_sub hl [7, 5, 4, 3, 2, 1, 0] rfl)
      · replace hf := ineg hc hf
        refine lv_aload_n hx hb dX1_aDeed_98 rfl (lv_at hl 5 rfl) ?_
        refine lv_iconst (v := (0 : Int32)) hx hb dX1_aDeed_99 (by decide) ?_
        refine lv_bipush (v := (20 : Int32)) hx hb dX1_aDeed_100 (by decide) ?_
        obtain ⟨x102, K102, C102, ex102, hf, eC1, eC2⟩ := pcl_e hf
        refine pcallI (rest := []) hx hb hts hst hown hEP hI hml hl.1 (mX3_number Λ Λn v92.2 (0 : Int32) (20 : Int32) _ _ ex102) (cwX3_number_X1 hts ⟨Nat.le_of_ble_eq_true rfl, Nat.le_of_ble_eq_true rfl⟩) (hI.1.o 1 rfl) rfl rfl ⟨(show cu92 + K102.1 ≤ T.1 by omega), (show su92 + K102.2 ≤ T.2 by omega)⟩ rfl rfl (lv_room (Nat.le_of_ble_eq_true rfl)) dX1_aDeed_102 (fun E ce q9 σ' H locs ho hn hI h1 h2 h3 => by subst ho; replace hf := selR hf; obtain ⟨ho, hK⟩ := pr_e hf; exact hxx H locs 102 ls _ _ _ E ce q9 _ hI ho hn h1 h2 h3 (show cu92 + K102.1 ≤ T.1 by omega) (show su92 + K102.2 ≤ T.2 by omega)) (fun v102 H locs ho hI => ?_)
        subst ho
        replace hf := selL hf
        obtain ⟨cu102, ecu102⟩ : ∃ n, n = cu92 + K102.1 := ⟨_, rfl⟩
        obtain ⟨su102, esu102⟩ : ∃ n, n = su92 + K102.2 := ⟨_, rfl⟩
        rw [← ecu102, ← esu102]
        replace hu1 : cu102 + C102.1 = T.1 := by omega
        replace hu2 : su102 + C102.2 = T.2 := by omega
        clear ecu102 esu102 eC1 eC2
        refine lv_goto (tgt := 109) hx hb dX1_aDeed_105 (by decide) ?_
        exact hJ109 v102.2 v9 v31.1 v46.1 v61.1 v84.1 v102.1 _ H locs ls hf _ _ hu1 hu2 hI (lv_sub hl [7, 5, 4, 3, 2, 1, 0] rfl)
    · replace hf := ipos hc hf
      refine lv_aload_n hx hb dX1_aDeed_73 rfl (lv_at hl 4 rfl) ?_
      obtain ⟨ho, hK⟩ := pr_e hf
      have hK1 : C61.1 = 1 := congrArg Prod.fst hK
      have hK2 : C61.2 = 6 := congrArg Prod.snd hK
      have hu3 : cu61 + 1 = T.1 := by omega
      have hu4 : su61 + 6 = T.2 := by omega
      refine pwrong (rest := []) hx hb hts hst hown hEP hI hml hl.1 (cwX3_wrong_X1 hts ⟨Nat.le_of_ble_eq_true rfl, Nat.le_of_ble_eq_true rfl⟩) ⟨Nat.le_of_eq hu3, Nat.le_of_eq hu4⟩ (lv_room (Nat.le_of_ble_eq_true rfl)) dX1_aDeed_74 dX1_aDeed_77 (fun E ce q9 H locs hn hI h1 h2 h3 => ?_)
      exact hxx H locs 77 ls _ _ _ E ce q9 _ hI ho hn h1 h2 h3 (Nat.le_of_eq hu3) (Nat.le_of_eq hu4)
  · replace hf := ipos hc hf
    refine lv_aload_n hx hb dX1_aDeed_16 rfl (lv_at hl 1 rfl) ?_
    obtain ⟨ho, hK⟩ := pr_e hf
    have hK1 : T.1 = 1 := congrArg Prod.fst hK
    have hK2 : T.2 = 6 := congrArg Prod.snd hK
    have hu3 : 0 + 1 = T.1 := by omega
    have hu4 : 0 + 6 = T.2 := by omega
    refine pwrong (rest := []) hx hb hts hst hown hEP hI hml hl.1 (cwX3_wrong_X1 hts ⟨Nat.le_of_ble_eq_true rfl, Nat.le_of_ble_eq_true rfl⟩) ⟨Nat.le_of_eq hu3, Nat.le_of_eq hu4⟩ (lv_room (Nat.le_of_ble_eq_true rfl)) dX1_aDeed_17 dX1_aDeed_20 (fun E ce q9 H locs hn hI h1 h2 h3 => ?_)
    exact hxx H locs 20 ls _ _ _ E ce q9 _ hI ho hn h1 h2 h3 (Nat.le_of_eq hu3) (Nat.le_of_eq hu4)

theorem cwJ6_hashCode_X1 {R : Room} {s : State} {args : Array Value} {fr lo : Nat} (hts : ∀ w ∈ lw_all, w.before args s = true) (hR : fr + 1 ≤ R.frames ∧ 8 + (2 + 11) + lo ≤ R.locals) : CallW R s args RX1 RJ6 166 yJ6_hashCode cJ6_hashCode 2 (some .int) (ws_ yJ6_hashCode cJ6_hashCode 2 (some .int)) ({ frames := fr, cells := 0, slots := 0, locals := lo }) 0 0 0 :=
  cwV 0 hts (lw_V q1223 q1224 q1225 q147 q1226) rfl rfl rfl (by decide +kernel) hR
def X1_seasonTold_J109 (τ : Cs) (x2 : Int32) : Option (Po × Kc) :=
  if x2 = (0 : Int32) then
    some (.inl ((0 : Int32), τ), (0, 0))
  else
  if x2 = (1 : Int32) then
    some (.inl ((1 : Int32), τ), (0, 0))
  else
  if x2 = (2 : Int32) then
    some (.inl ((2 : Int32), τ), (0, 0))
  else
  if x2 = (3 : Int32) then
    some (.inl ((3 : Int32), τ), (0, 0))
  else
  some (.inr τ, (1, 6))
def X1_seasonTold (τ : Cs) : Option (Po × Kc) :=
  (X3_word τ).bind fun t4 => addc (wC t4, wS t4) (
  if (whash t4) = (-1406316010 : Int32) then
    if (weq t4 20) = (0 : Int32) then
      X1_seasonTold_J109 t4 (-1 : Int32)
    else
      X1_seasonTold_J109 t4 (2 : Int32)
  else
  if (whash t4) = (-895679987 : Int32) then
    if (weq t4 18) = (0 : Int32) then
      X1_seasonTold_J109 t4 (-1 : Int32)
    else
      X1_seasonTold_J109 t4 (0 : Int32)
  else
  if (whash t4) = (-891207761 : Int32) then
    if (weq t4 19) = (0 : Int32) then
      X1_seasonTold_J109 t4 (-1 : Int32)
    else
      X1_seasonTold_J109 t4 (1 : Int32)
  else
  if (whash t4) = (-787736891 : Int32) then
    if (weq t4 21) = (0 : Int32) then
      X1_seasonTold_J109 t4 (-1 : Int32)
    else
      X1_seasonTold_J109 t4 (3 : Int32)
  else
  X1_seasonTold_J109 t4 (-1 : Int32))
set_option maxHeartbeats 4000000 in
theorem mX1_seasonTold (Λ : Nat → Nat → (Nat → Int32) → Int32) (Λn : Nat → Int32) (τ : Cs) (out : Po) (T : Kc) (hf : X1_seasonTold τ = some (out, T)) : PXi yX1_seasonTold cX1_seasonTold 3 (some .int) 15 1522 Λ Λn (fun o aK aF => [.ref o]) out T τ := by
  refine PXi.of (by decide) (fun _ _ _ => Nat.le_of_ble_eq_true rfl) ?_
  intro p l e s m args below meth c D8 D J o z aK aV G Ld aF N9 Q ls hst hx hb hml hown hts hEP hret hxx hI hl
  have hE := hEP.1
  obtain ⟨H, eH⟩ : ∃ H, H = s.heap := ⟨_, rfl⟩
  obtain ⟨locs, eL⟩ : ∃ L : List Loc, L = [] := ⟨_, rfl⟩
  rw [← eH, ← eL] at hI ⊢
  have hown : s.vm.findClass RX1 = some m.cls := hown
  have hu1 : 0 + T.1 = T.1 := Nat.zero_add _
  have hu2 : 0 + T.2 = T.2 := Nat.zero_add _
  have hl : lv_has ls 3 [(0, .ref o)] := hl
  unfold X1_seasonTold at hf
  have hJ109 : ∀ (τ : Cs) (x2 : Int32) (C : Kc) (H : Heap) (locs : List Loc) (ls : Array Slot), X1_seasonTold_J109 τ x2 = some (out, C) → ∀ (cu su : Nat), cu + C.1 = T.1 → su + C.2 = T.2 → IP D J o Ld N9 s H locs τ → lv_has ls 3 [(0, .ref o), (2, .int x2)] → W p l e ({ frames := 15, cells := T.1, slots := T.2, locals := 1522 } : Room) s m args below meth c H locs cu su Q (F0 m 109 ls []) := by
    intro τ x2 C H locs ls hf cu su hu1 hu2 hI hl
    unfold X1_seasonTold_J109 at hf
    refine lv_iload_n hx hb dX1_seasonTold_109 rfl (lv_at hl 1 rfl) ?_
    by_cases hs110_0 : x2 = (0 : Int32)
    · replace hf := ipos hs110_0 hf
      refine lv_tableIn (off := 30) (tgt := 140) hx hb dX1_seasonTold_110 (by rw [hs110_0]; decide) (by rw [hs110_0]; decide) (by rw [hs110_0]; rfl) (by decide) ?_
      refine lv_iconst (v := (0 : Int32)) hx hb dX1_seasonTold_140 (by decide) ?_
      obtain ⟨ho, -⟩ := pr_e hf
      exact hret H locs 141 ls _ _ _ _ hI ho (leC hu1) (leC hu2) dX1_seasonTold_141
    replace hf := ineg hs110_0 hf
    by_cases hs110_1 : x2 = (1 : Int32)
    · replace hf := ipos hs110_1 hf
      refine lv_tableIn (off := 32) (tgt := 142) hx hb dX1_seasonTold_110 (by rw [hs110_1]; decide) (by rw [hs110_1]; decide) (by rw [hs110_1]; rfl) (by decide) ?_
      refine lv_iconst (v := (1 : Int32)) hx hb dX1_seasonTold_142 (by decide) ?_
      obtain ⟨ho, -⟩ := pr_e hf
      exact hret H locs 143 ls _ _ _ _ hI ho (leC hu1) (leC hu2) dX1_seasonTold_143
    replace hf := ineg hs110_1 hf
    by_cases hs110_2 : x2 = (2 : Int32)
    · replace hf := ipos hs110_2 hf
      refine lv_tableIn (off := 34) (tgt := 144) hx hb dX1_seasonTold_110 (by rw [hs110_2]; decide) (by rw [hs110_2]; decide) (by rw [hs110_2]; rfl) (by decide) ?_
      refine lv_iconst (v := (2 : Int32)) hx hb dX1_seasonTold_144 (by decide) ?_
      obtain ⟨ho, -⟩ := pr_e hf
      exact hret H locs 145 ls _ _ _ _ hI ho (leC hu1) (leC hu2) dX1_seasonTold_145
    replace hf := ineg hs110_2 hf
    by_cases hs110_3 : x2 = (3 : Int32)
    · replace hf := ipos hs110_3 hf
      refine lv_tableIn (off := 36) (tgt := 146) hx hb dX1_seasonTold_110 (by rw [hs110_3]; decide) (by rw [hs110_3]; decide) (by rw [hs110_3]; rfl) (by decide) ?_
      refine lv_iconst (v := (3 : Int32)) hx hb dX1_seasonTold_146 (by decide) ?_
      obtain ⟨ho, -⟩ := pr_e hf
      exact hret H locs 147 ls _ _ _ _ hI ho (leC hu1) (leC hu2) dX1_seasonTold_147
    replace hf := ineg hs110_3 hf
    refine lv_tableOut (tgt := 148) hx hb dX1_seasonTold_110 (tswOut (n := 3) (by decide) (fun k hk => ?_)) (by decide) ?_
    · match k, hk with
      | 0, _ => exact hs110_0
      | 1, _ => exact hs110_1
      | 2, _ => exact hs110_2
      | 3, _ => exact hs110_3
    refine lv_aload_n hx hb dX1_seasonTold_148 rfl (lv_at hl 0 rfl) ?_
    refine gget hx hb hts in_X1 hown hE.1.1 (hI.1.o 0 rfl) rfl 4 (by decide) q469 rfl dX1_seasonTold_149 ?_
    obtain ⟨ho, hK⟩ := pr_e hf
    have hK1 : C.1 = 1 := congrArg Prod.fst hK
    have hK2 : C.2 = 6 := congrArg Prod.snd hK
    have hu3 : cu + 1 = T.1 := by omega
    have hu4 : su + 6 = T.2 := by omega
    refine pwrong (rest := []) hx hb hts hst hown hEP hI hml hl.1 (cwX3_wrong_X1 hts ⟨Nat.le_of_ble_eq_true rfl, Nat.le_of_ble_eq_true rfl⟩) ⟨Nat.le_of_eq hu3, Nat.le_of_eq hu4⟩ (lv_room (Nat.le_of_ble_eq_true rfl)) dX1_seasonTold_152 dX1_seasonTold_155 (fun E ce q9 H locs hn hI h1 h2 h3 => ?_)
    exact hxx H locs 155 ls _ _ _ E ce q9 _ hI ho hn h1 h2 h3 (Nat.le_of_eq hu3) (Nat.le_of_eq hu4)
  refine lv_aload_n hx hb dX1_seasonTold_0 rfl (lv_at hl 0 rfl) ?_
  refine gget hx hb hts in_X1 hown hE.1.1 (hI.1.o 0 rfl) rfl 4 (by decide) q469 rfl dX1_seasonTold_1 ?_
  obtain ⟨t4, et4, hf⟩ := obd hf
  obtain ⟨C4, hf, eC1, eC2⟩ := addc_e hf
  replace eC1 : T.1 = wC t4 + C4.1 := eC1
  replace eC2 : T.2 = wS t4 + C4.2 := eC2
  refine pword (rest := []) hx hb hts hown hEP hI hml hl.1 et4 (cwX3_word_X1 hts ⟨Nat.le_of_ble_eq_true rfl, Nat.le_of_ble_eq_true rfl⟩) ⟨(show 0 + wC t4 ≤ T.1 by omega), (show 0 + wS t4 ≤ T.2 by omega)⟩ (lv_room (Nat.le_of_ble_eq_true rfl)) dX1_seasonTold_4 (fun st4 vast4 H locs hI hsst4 => ?_)
  obtain ⟨cu4, ecu4⟩ : ∃ n, n = 0 + wC t4 := ⟨_, rfl⟩
  obtain ⟨su4, esu4⟩ : ∃ n, n = 0 + wS t4 := ⟨_, rfl⟩
  rw [← ecu4, ← esu4]
  replace hu1 : cu4 + C4.1 = T.1 := by omega
  replace hu2 : su4 + C4.2 = T.2 := by omega
  clear ecu4 esu4 eC1 eC2
  refine lv_astore_n (lv' := [(1, .ref st4), (0, .ref o)]) hx hb dX1_seasonTold_7 rfl hl (by decide) rfl (fun ls hl => ?_)
  refine lv_iconst (v := (-1 : Int32)) hx hb dX1_seasonTold_8 (by decide) ?_
  refine lv_istore_n (lv' := [(2, .int (-1 : Int32)), (1, .ref st4), (0, .ref o)]) hx hb dX1_seasonTold_9 rfl hl (by decide) rfl (fun ls hl => ?_)
  refine lv_aload_n hx hb dX1_seasonTold_10 rfl (lv_at hl 1 rfl) ?_
  refine phash (rest := []) hx hb hts hown hEP hI hml hl.1 hsst4 (cwJ6_hashCode_X1 hts ⟨Nat.le_of_ble_eq_true rfl, Nat.le_of_ble_eq_true rfl⟩) ⟨leC hu1, leC hu2⟩ (lv_room (Nat.le_of_ble_eq_true rfl)) dX1_seasonTold_11 (fun hhst4 hzst4 H locs hI hsst4 => ?_)
  by_cases hs14_0 : (whash t4) = (-1406316010 : Int32)
  · replace hf := ipos hs14_0 hf
    refine lv_lookup (off := 70) (tgt := 84) hx hb dX1_seasonTold_14 (by decide) (by rw [hs14_0]; decide) (by decide) ?_
    refine lv_aload_n hx hb dX1_seasonTold_84 rfl (lv_at hl 1 rfl) ?_
    refine va_ldcS hx hb hown (hE.1.2.1.at 20 rfl) dX1_seasonTold_85 ?_
    refine pequals (rest := []) hx hb hts hown hEP hI hml hl.1 hsst4 (by decide) (cwJ6_equals_X1 hts ⟨Nat.le_of_ble_eq_true rfl, Nat.le_of_ble_eq_true rfl⟩) ⟨leC hu1, leC hu2⟩ (lv_room (Nat.le_of_ble_eq_true rfl)) dX1_seasonTold_87 (fun H locs hI hsst4 => ?_)
    refine lv_if_eq (tgt := 109) hx hb dX1_seasonTold_90 (by decide) (fun hc => ?_) (fun hc => ?_)
    · replace hf := ipos hc hf
      exact hJ109 t4 (-1 : Int32) _ H locs ls hf _ _ hu1 hu2 hI (lv_sub hl [2, 0] rfl)
    · replace hf := ineg hc hf
      refine lv_iconst (v := (2 : Int32)) hx hb dX1_seasonTold_93 (by decide) ?_
      refine lv_istore_n (lv' := [(2, .int (2 : Int32)), (1, .ref st4), (0, .ref o)]) hx hb dX1_seasonTold_94 rfl hl (by decide) rfl (fun ls hl => ?_)
      refine lv_goto (tgt := 109) hx hb dX1_seasonTold_95 (by decide) ?_
      exact hJ109 t4 (2 : Int32) _ H locs ls hf _ _ hu1 hu2 hI (lv_sub hl [2, 0] rfl)
  replace hf := ineg hs14_0 hf
  by_cases hs14_1 : (whash t4) = (-895679987 : Int32)
  · replace hf := ipos hs14_1 hf
    refine lv_lookup (off := 42) (tgt := 56) hx hb dX1_seasonTold_14 (by decide) (by rw [hs14_1]; decide) (by decide) ?_
    refine lv_aload_n hx hb dX1_seasonTold_56 rfl (lv_at hl 1 rfl) ?_
    refine va_ldcS hx hb hown (hE.1.2.1.at 18 rfl) dX1_seasonTold_57 ?_
    refine pequals (rest := []) hx hb hts hown hEP hI hml hl.1 hsst4 (by decide) (cwJ6_equals_X1 hts ⟨Nat.le_of_ble_eq_true rfl, Nat.le_of_ble_eq_true rfl⟩) ⟨leC hu1, leC hu2⟩ (lv_room (Nat.le_of_ble_eq_true rfl)) dX1_seasonTold_59 (fun H locs hI hsst4 => ?_)
    refine lv_if_eq (tgt := 109) hx hb dX1_seasonTold_62 (by decide) (fun hc => ?_) (fun hc => ?_)
    · replace hf := ipos hc hf
      exact hJ109 t4 (-1 : Int32) _ H locs ls hf _ _ hu1 hu2 hI (lv_sub hl [2, 0] rfl)
    · replace hf := ineg hc hf
      refine lv_iconst (v := (0 : Int32)) hx hb dX1_seasonTold_65 (by decide) ?_
      refine lv_istore_n (lv' := [(2, .int (0 : Int32)), (1, .ref st4), (0, .ref o)]) hx hb dX1_seasonTold_66 rfl hl (by decide) rfl (fun ls hl => ?_)
      refine lv_goto (tgt := 109) hx hb dX1_seasonTold_67 (by decide) ?_
      exact hJ109 t4 (0 : Int32) _ H locs ls hf _ _ hu1 hu2 hI (lv_sub hl [2, 0] rfl)
  replace hf := ineg hs14_1 hf
  by_cases hs14_2 : (whash t4) = (-891207761 : Int32)
  · replace hf := ipos hs14_2 hf
    refine lv_lookup (off := 56) (tgt := 70) hx hb dX1_seasonTold_14 (by decide) (by rw [hs14_2]; decide) (by decide) ?_
    refine lv_aload_n hx hb dX1_seasonTold_70 rfl (lv_at hl 1 rfl) ?_
    refine va_ldcS hx hb hown (hE.1.2.1.at 19 rfl) dX1_seasonTold_71 ?_
    refine pequals (rest := []) hx hb hts hown hEP hI hml hl.1 hsst4 (by decide) (cwJ6_equals_X1 hts ⟨Nat.le_of_ble_eq_true rfl, Nat.le_of_ble_eq_true rfl⟩) ⟨leC hu1, leC hu2⟩ (lv_room (Nat.le_of_ble_eq_true rfl)) dX1_seasonTold_73 (fun H locs hI hsst4 => ?_)
    refine lv_if_eq (tgt := 109) hx hb dX1_seasonTold_76 (by decide) (fun hc => ?_) (fun hc => ?_)
    · replace hf := ipos hc hf
      exact hJ109 t4 (-1 : Int32) _ H locs ls hf _ _ hu1 hu2 hI (lv_sub hl [2, 0] rfl)
    · replace hf := ineg hc hf
      refine lv_iconst (v := (1 : Int32)) hx hb dX1_seasonTold_79 (by decide) ?_
      refine lv_istore_n (lv' := [(2, .int (1 : Int32)), (1, .ref st4), (0, .ref o)]) hx hb dX1_seasonTold_80 rfl hl (by decide) rfl (fun ls hl => ?_)
      refine lv_goto (tgt := 109) hx hb dX1_seasonTold_81 (by decide) ?_
      exact hJ109 t4 (1 : Int32) _ H locs ls hf _ _ hu1 hu2 hI (lv_sub hl [2, 0] rfl)
  replace hf := ineg hs14_2 hf
  by_cases hs14_3 : (whash t4) = (-787736891 : Int32)
  · replace hf := ipos hs14_3 hf
    refine lv_lookup (off := 84) (tgt := 98) hx hb dX1_seasonTold_14 (by decide) (by rw [hs14_3]; decide) (by decide) ?_
    refine lv_aload_n hx hb dX1_seasonTold_98 rfl (lv_at hl 1 rfl) ?_
    refine va_ldcS hx hb hown (hE.1.2.1.at 21 rfl) dX1_seasonTold_99 ?_
    refine pequals (rest := []) hx hb hts hown hEP hI hml hl.1 hsst4 (by decide) (cwJ6_equals_X1 hts ⟨Nat.le_of_ble_eq_true rfl, Nat.le_of_ble_eq_true rfl⟩) ⟨leC hu1, leC hu2⟩ (lv_room (Nat.le_of_ble_eq_true rfl)) dX1_seasonTold_101 (fun H locs hI hsst4 => ?_)
    refine lv_if_eq (tgt := 109) hx hb dX1_seasonTold_104 (by decide) (fun hc => ?_) (fun hc => ?_)
    · replace hf := ipos hc hf
      exact hJ109 t4 (-1 : Int32) _ H locs ls hf _ _ hu1 hu2 hI (lv_sub hl [2, 0] rfl)
    · replace hf := ineg hc hf
      refine lv_iconst (v := (3 : Int32)) hx hb dX1_seasonTold_107 (by decide) ?_
      refine lv_istore_n (lv' := [(2, .int (3 : Int32)), (1, .ref st4), (0, .ref o)]) hx hb dX1_seasonTold_108 rfl hl (by decide) rfl (fun ls hl => ?_)
      exact hJ109 t4 (3 : Int32) _ H locs ls hf _ _ hu1 hu2 hI (lv_sub hl [2, 0] rfl)
  replace hf := ineg hs14_3 hf
  refine lv_lookup (off := 95) (tgt := 109) hx hb dX1_seasonTold_14 (by decide) (by show Op.lookupswitch.offset [((-1406316010 : Int), (70 : Int)), ((-895679987 : Int), (42 : Int)), ((-891207761 : Int), (56 : Int)), ((-787736891 : Int), (84 : Int))] 95 _ = 95; rw [Op.lookupswitch.offset_cons, if_neg (lkN hs14_0 (by decide)), Op.lookupswitch.offset_cons, if_neg (lkN hs14_1 (by decide)), Op.lookupswitch.offset_cons, if_neg (lkN hs14_2 (by decide)), Op.lookupswitch.offset_cons, if_neg (lkN hs14_3 (by decide)), Op.lookupswitch.offset_nil]) (by decide) ?_
  exact hJ109 t4 (-1 : Int32) _ H locs ls hf _ _ hu1 hu2 hI (lv_sub hl [2, 0] rfl)

theorem cwX1_aParty_X1 {R : Room} {s : State} {args : Array Value} {fr lo mc ms : Nat} (hts : ∀ w ∈ lw_all, w.before args s = true) (hR : fr + 1 ≤ R.frames ∧ 8 + (2 + 11) + lo ≤ R.locals) : CallW R s args RX1 RX1 190 yX1_aParty cX1_aParty 2 (none) (ws_ yX1_aParty cX1_aParty 2 (none)) ({ frames := fr, cells := mc, slots := ms, locals := lo }) mc ms 1 :=
  cwV 1 hts (lw_V q1299 q1301 qs20 q133 q1302) rfl rfl rfl (by decide +kernel) hR
theorem cwX1_anInk_X1 {R : Room} {s : State} {args : Array Value} {fr lo mc ms : Nat} (hts : ∀ w ∈ lw_all, w.before args s = true) (hR : fr + 1 ≤ R.frames ∧ 8 + (3 + 11) + lo ≤ R.locals) : CallW R s args RX1 RX1 194 yX1_anInk cX1_anInk 3 (none) (ws_ yX1_anInk cX1_anInk 3 (none)) ({ frames := fr, cells := mc, slots := ms, locals := lo }) mc ms 1 :=
  cwV 1 hts (lw_V q1312 q1314 qs21 q133 q1315) rfl rfl rfl (by decide +kernel) hR
theorem cwX1_aDeed_X1 {R : Room} {s : State} {args : Array Value} {fr lo mc ms : Nat} (hts : ∀ w ∈ lw_all, w.before args s = true) (hR : fr + 1 ≤ R.frames ∧ 8 + (11 + 11) + lo ≤ R.locals) : CallW R s args RX1 RX1 197 yX1_aDeed cX1_aDeed 11 (none) (ws_ yX1_aDeed cX1_aDeed 11 (none)) ({ frames := fr, cells := mc, slots := ms, locals := lo }) mc ms 1 :=
  cwV 1 hts (lw_V q1333 q1335 qs24 q133 q1336) rfl rfl rfl (by decide +kernel) hR
theorem cwX1_seasonTold_X1 {R : Room} {s : State} {args : Array Value} {fr lo mc ms : Nat} (hts : ∀ w ∈ lw_all, w.before args s = true) (hR : fr + 1 ≤ R.frames ∧ 8 + (3 + 11) + lo ≤ R.locals) : CallW R s args RX1 RX1 200 yX1_seasonTold cX1_seasonTold 3 (some .int) (ws_ yX1_seasonTold cX1_seasonTold 3 (some .int)) ({ frames := fr, cells := mc, slots := ms, locals := lo }) mc ms 0 :=
  cwV 0 hts (lw_V q1347 q1349 qs25 q133 q1350) rfl rfl rfl (by decide +kernel) hR
def X1_portLine_J187 (τ : Cs) (k1 : Nat) (x4 : Int32) : Option (Po × Kc) :=
  if x4 = (0 : Int32) then
    (X1_aParty τ k1).bind fun x234 => addc x234.2 (Sum.elim (fun (v234 : Int32 × Cs) =>
      some (.inl ((0 : Int32), v234.2), (0, 0))) (fun (u : Cs) => some (.inr u, (0, 0))) x234.1)
  else
  if x4 = (1 : Int32) then
    (X1_anInk τ k1).bind fun x240 => addc x240.2 (Sum.elim (fun (v240 : Int32 × Cs) =>
      some (.inl ((0 : Int32), v240.2), (0, 0))) (fun (u : Cs) => some (.inr u, (0, 0))) x240.1)
  else
  if x4 = (2 : Int32) then
    (X1_aDeed τ k1).bind fun x246 => addc x246.2 (Sum.elim (fun (v246 : Int32 × Cs) =>
      some (.inl ((0 : Int32), v246.2), (0, 0))) (fun (u : Cs) => some (.inr u, (0, 0))) x246.1)
  else
  if x4 = (3 : Int32) then
    (X1_seasonTold τ).bind fun x251 => addc x251.2 (Sum.elim (fun (v251 : Int32 × Cs) =>
      (X3_number v251.2 (0 : Int32) (9 : Int32)).bind fun x266 => addc x266.2 (Sum.elim (fun (v266 : Int32 × Cs) =>
        (stof 4 (cw v266.2 k1 9) v251.1 v266.1).bind fun g269 =>
        (some (cwu v266.2 k1 (mset (cw v266.2 k1) 9 g269))).bind fun t269 =>
        some (.inl ((0 : Int32), t269), (0, 0))) (fun (u : Cs) => some (.inr u, (0, 0))) x266.1)) (fun (u : Cs) => some (.inr u, (0, 0))) x251.1)
  else
  if x4 = (4 : Int32) then
    (X3_number τ (0 : Int32) (9 : Int32)).bind fun x276 => addc x276.2 (Sum.elim (fun (v276 : Int32 × Cs) =>
      (some (cwu v276.2 k1 (mup (cw v276.2 k1) 0 5 v276.1))).bind fun t279 =>
      some (.inl ((0 : Int32), t279), (0, 0))) (fun (u : Cs) => some (.inr u, (0, 0))) x276.1)
  else
  if x4 = (5 : Int32) then
    (X3_number τ (0 : Int32) (100 : Int32)).bind fun x288 => addc x288.2 (Sum.elim (fun (v288 : Int32 × Cs) =>
      (some (cwu v288.2 k1 (mup (cw v288.2 k1) 0 6 v288.1))).bind fun t291 =>
      some (.inl ((0 : Int32), t291), (0, 0))) (fun (u : Cs) => some (.inr u, (0, 0))) x288.1)
  else
  if x4 = (6 : Int32) then
    if (cw τ k1 0 3) ≤ (0 : Int32) then
      (X3_number τ (0 : Int32) (999 : Int32)).bind fun x313 => addc x313.2 (Sum.elim (fun (v313 : Int32 × Cs) =>
        (some (cwu v313.2 k1 (mup (cw v313.2 k1) 0 4 v313.1))).bind fun t316 =>
        some (.inl ((0 : Int32), t316), (0, 0))) (fun (u : Cs) => some (.inr u, (0, 0))) x313.1)
    else
      some (.inr τ, (1, 6))
  else
  some (.inr τ, (1, 6))
def X1_portLine (τ : Cs) (k1 : Nat) : Option (Po × Kc) :=
  (X3_word τ).bind fun t6 => addc (wC t6, wS t6) (
  if (whash t6) = (104422 : Int32) then
    if (weq t6 3) = (0 : Int32) then
      X1_portLine_J187 t6 k1 (-1 : Int32)
    else
      X1_portLine_J187 t6 k1 (1 : Int32)
  else
  if (whash t6) = (3075808 : Int32) then
    if (weq t6 5) = (0 : Int32) then
      X1_portLine_J187 t6 k1 (-1 : Int32)
    else
      X1_portLine_J187 t6 k1 (3 : Int32)
  else
  if (whash t6) = (3079392 : Int32) then
    if (weq t6 4) = (0 : Int32) then
      X1_portLine_J187 t6 k1 (-1 : Int32)
    else
      X1_portLine_J187 t6 k1 (2 : Int32)
  else
  if (whash t6) = (3522646 : Int32) then
    if (weq t6 6) = (0 : Int32) then
      X1_portLine_J187 t6 k1 (-1 : Int32)
    else
      X1_portLine_J187 t6 k1 (4 : Int32)
  else
  if (whash t6) = (3560141 : Int32) then
    if (weq t6 8) = (0 : Int32) then
      X1_portLine_J187 t6 k1 (-1 : Int32)
    else
      X1_portLine_J187 t6 k1 (6 : Int32)
  else
  if (whash t6) = (106437350 : Int32) then
    if (weq t6 2) = (0 : Int32) then
      X1_portLine_J187 t6 k1 (-1 : Int32)
    else
      X1_portLine_J187 t6 k1 (0 : Int32)
  else
  if (whash t6) = (109654189 : Int32) then
    if (weq t6 7) = (0 : Int32) then
      X1_portLine_J187 t6 k1 (-1 : Int32)
    else
      X1_portLine_J187 t6 k1 (5 : Int32)
  else
  X1_portLine_J187 t6 k1 (-1 : Int32))
set_option maxHeartbeats 4000000 in
theorem mX1_portLine (Λ : Nat → Nat → (Nat → Int32) → Int32) (Λn : Nat → Int32) (τ : Cs) (k1 : Nat) (hk1 : k1 < 5) (out : Po) (T : Kc) (hf : X1_portLine τ k1 = some (out, T)) : PXv yX1_portLine cX1_portLine 6 (none) 18 1596 Λ Λn (fun o aK aF => [.ref o, .ref (wA o k1)]) out T τ := by
  refine PXv.of (by decide) (fun _ _ _ => Nat.le_of_ble_eq_true rfl) ?_
  intro p l e s m args below meth c D8 D J o z aK aV G Ld aF N9 Q ls hst hx hb hml hown hts hEP hret hxx hI hl
  have hE := hEP.1
  obtain ⟨H, eH⟩ : ∃ H, H = s.heap := ⟨_, rfl⟩
  obtain ⟨locs, eL⟩ : ∃ L : List Loc, L = [] := ⟨_, rfl⟩
  rw [← eH, ← eL] at hI ⊢
  have hown : s.vm.findClass RX1 = some m.cls := hown
  have hu1 : 0 + T.1 = T.1 := Nat.zero_add _
  have hu2 : 0 + T.2 = T.2 := Nat.zero_add _
  have hl : lv_has ls 6 [(0, .ref o), (1, .ref (wA o k1))] := hl
  unfold X1_portLine at hf
  have hJ187 : ∀ (τ : Cs) (x4 : Int32) (C : Kc) (H : Heap) (locs : List Loc) (ls : Array Slot), X1_portLine_J187 τ k1 x4 = some (out, C) → ∀ (cu su : Nat), cu + C.1 = T.1 → su + C.2 = T.2 → IP D J o Ld N9 s H locs τ → lv_has ls 6 [(0, .ref o), (1, .ref (wA o k1)), (2, .ref (o + 61)), (4, .int x4)] → W p l e ({ frames := 18, cells := T.1, slots := T.2, locals := 1596 } : Room) s m args below meth c H locs cu su Q (F0 m 187 ls []) := by
    intro τ x4 C H locs ls hf cu su hu1 hu2 hI hl
    unfold X1_portLine_J187 at hf
    refine lv_iload hx hb dX1_portLine_187 (lv_at hl 3 rfl) ?_
    by_cases hs189_0 : x4 = (0 : Int32)
    · replace hf := ipos hs189_0 hf
      refine lv_tableIn (off := 43) (tgt := 232) hx hb dX1_portLine_189 (by rw [hs189_0]; decide) (by rw [hs189_0]; decide) (by rw [hs189_0]; rfl) (by decide) ?_
      refine lv_aload_n hx hb dX1_portLine_232 rfl (lv_at hl 0 rfl) ?_
      refine lv_aload_n hx hb dX1_portLine_233 rfl (lv_at hl 1 rfl) ?_
      obtain ⟨x234, K234, C234, ex234, hf, eC1, eC2⟩ := pcl_e hf
      refine pcallV (rest := []) hx hb hts hst hown hEP hI hml hl.1 (mX1_aParty Λ Λn τ k1 hk1 _ _ ex234) (cwX1_aParty_X1 hts ⟨Nat.le_of_ble_eq_true rfl, Nat.le_of_ble_eq_true rfl⟩) (hI.1.o 0 rfl) rfl rfl ⟨(show cu + K234.1 ≤ T.1 by omega), (show su + K234.2 ≤ T.2 by omega)⟩ rfl rfl (lv_room (Nat.le_of_ble_eq_true rfl)) dX1_portLine_234 (fun E ce q9 σ' H locs ho hn hI h1 h2 h3 => by subst ho; replace hf := selR hf; obtain ⟨ho, hK⟩ := pr_e hf; exact hxx H locs 234 ls _ _ _ E ce q9 _ hI ho hn h1 h2 h3 (show cu + K234.1 ≤ T.1 by omega) (show su + K234.2 ≤ T.2 by omega)) (fun v234 H locs ho hI => ?_)
      subst ho
      replace hf := selL hf
      obtain ⟨cu234, ecu234⟩ : ∃ n, n = cu + K234.1 := ⟨_, rfl⟩
      obtain ⟨su234, esu234⟩ : ∃ n, n = su + K234.2 := ⟨_, rfl⟩
      rw [← ecu234, ← esu234]
      replace hu1 : cu234 + C234.1 = T.1 := by omega
      replace hu2 : su234 + C234.2 = T.2 := by omega
      clear ecu234 esu234 eC1 eC2
      obtain ⟨ho, -⟩ := pr_e hf
      exact hret H locs 237 ls _ _ _ hI ho (leC hu1) (leC hu2) dX1_portLine_237
    replace hf := ineg hs189_0 hf
    by_cases hs189_1 : x4 = (1 : Int32)
    · replace hf := ipos hs189_1 hf
      refine lv_tableIn (off := 49) (tgt := 238) hx hb dX1_portLine_189 (by rw [hs189_1]; decide) (by rw [hs189_1]; decide) (by rw [hs189_1]; rfl) (by decide) ?_
      refine lv_aload_n hx hb dX1_portLine_238 rfl (lv_at hl 0 rfl) ?_
      refine lv_aload_n hx hb dX1_portLine_239 rfl (lv_at hl 1 rfl) ?_
      obtain ⟨x240, K240, C240, ex240, hf, eC1, eC2⟩ := pcl_e hf
      refine pcallV (rest := []) hx hb hts hst hown hEP hI hml hl.1 (mX1_anInk Λ Λn τ k1 hk1 _ _ ex240) (cwX1_anInk_X1 hts ⟨Nat.le_of_ble_eq_true rfl, Nat.le_of_ble_eq_true rfl⟩) (hI.1.o 0 rfl) rfl rfl ⟨(show cu + K240.1 ≤ T.1 by omega), (show su + K240.2 ≤ T.2 by omega)⟩ rfl rfl (lv_room (Nat.le_of_ble_eq_true rfl)) dX1_portLine_240 (fun E ce q9 σ' H locs ho hn hI h1 h2 h3 => by subst ho; replace hf := selR hf; obtain ⟨ho, hK⟩ := pr_e hf; exact hxx H locs 240 ls _ _ _ E ce q9 _ hI ho hn h1 h2 h3 (show cu + K240.1 ≤ T.1 by omega) (show su + K240.2 ≤ T.2 by omega)) (fun v240 H locs ho hI => ?_)
      subst ho
      replace hf := selL hf
      obtain ⟨cu240, ecu240⟩ : ∃ n, n = cu + K240.1 := ⟨_, rfl⟩
      obtain ⟨su240, esu240⟩ : ∃ n, n = su + K240.2 := ⟨_, rfl⟩
      rw [← ecu240, ← esu240]
      replace hu1 : cu240 + C240.1 = T.1 := by omega
      replace hu2 : su240 + C240.2 = T.2 := by omega
      clear ecu240 esu240 eC1 eC2
      obtain ⟨ho, -⟩ := pr_e hf
      exact hret H locs 243 ls _ _ _ hI ho (leC hu1) (leC hu2) dX1_portLine_243
    replace hf := ineg hs189_1 hf
    by_cases hs189_2 : x4 = (2 : Int32)
    · replace hf := ipos hs189_2 hf
      refine lv_tableIn (off := 55) (tgt := 244) hx hb dX1_portLine_189 (by rw [hs189_2]; decide) (by rw [hs189_2]; decide) (by rw [hs189_2]; rfl) (by decide) ?_
      refine lv_aload_n hx hb dX1_portLine_244 rfl (lv_at hl 0 rfl) ?_
      refine lv_aload_n hx hb dX1_portLine_245 rfl (lv_at hl 1 rfl) ?_
      obtain ⟨x246, K246, C246, ex246, hf, eC1, eC2⟩ := pcl_e hf
      refine pcallV (rest := []) hx hb hts hst hown hEP hI hml hl.1 (mX1_aDeed Λ Λn τ k1 hk1 _ _ ex246) (cwX1_aDeed_X1 hts ⟨Nat.le_of_ble_eq_true rfl, Nat.le_of_ble_eq_true rfl⟩) (hI.1.o 0 rfl) rfl rfl ⟨(show cu + K246.1 ≤ T.1 by omega), (show su + K246.2 ≤ T.2 by omega)⟩ rfl rfl (lv_room (Nat.le_of_ble_eq_true rfl)) dX1_portLine_246 (fun E ce q9 σ' H locs ho hn hI h1 h2 h3 => by subst ho; replace hf := selR hf; obtain ⟨ho, hK⟩ := pr_e hf; exact hxx H locs 246 ls _ _ _ E ce q9 _ hI ho hn h1 h2 h3 (show cu + K246.1 ≤ T.1 by omega) (show su + K246.2 ≤ T.2 by omega)) (fun v246 H locs ho hI => ?_)
      subst ho
      replace hf := selL hf
      obtain ⟨cu246, ecu246⟩ : ∃ n, n = cu + K246.1 := ⟨_, rfl⟩
      obtain ⟨su246, esu246⟩ : ∃ n, n = su + K246.2 := ⟨_, rfl⟩
      rw [← ecu246, ← esu246]
      replace hu1 : cu246 + C246.1 = T.1 := by omega
      replace hu2 : su246 + C246.2 = T.2 := by omega
      clear ecu246 esu246 eC1 eC2
      obtain ⟨ho, -⟩ := pr_e hf
      exact hret H locs 249 ls _ _ _ hI ho (leC hu1) (leC hu2) dX1_portLine_249
    replace hf := ineg hs189_2 hf
    by_cases hs189_3 : x4 = (3 : Int32)
    · replace hf := ipos hs189_3 hf
      refine lv_tableIn (off := 61) (tgt := 250) hx hb dX1_portLine_189 (by rw [hs189_3]; decide) (by rw [hs189_3]; decide) (by rw [hs189_3]; rfl) (by decide) ?_
      refine lv_aload_n hx hb dX1_portLine_250 rfl (lv_at hl 0 rfl) ?_
      obtain ⟨x251, K251, C251, ex251, hf, eC1, eC2⟩ := pcl_e hf
      refine pcallI (rest := []) hx hb hts hst hown hEP hI hml hl.1 (mX1_seasonTold Λ Λn τ _ _ ex251) (cwX1_seasonTold_X1 hts ⟨Nat.le_of_ble_eq_true rfl, Nat.le_of_ble_eq_true rfl⟩) (hI.1.o 0 rfl) rfl rfl ⟨(show cu + K251.1 ≤ T.1 by omega), (show su + K251.2 ≤ T.2 by omega)⟩ rfl rfl (lv_room (Nat.le_of_ble_eq_true rfl)) dX1_portLine_251 (fun E ce q9 σ' H locs ho hn hI h1 h2 h3 => by subst ho; replace hf := selR hf; obtain ⟨ho, hK⟩ := pr_e hf; exact hxx H locs 251 ls _ _ _ E ce q9 _ hI ho hn h1 h2 h3 (show cu + K251.1 ≤ T.1 by omega) (show su + K251.2 ≤ T.2 by omega)) (fun v251 H locs ho hI => ?_)
      subst ho
      replace hf := selL hf
      obtain ⟨cu251, ecu251⟩ : ∃ n, n = cu + K251.1 := ⟨_, rfl⟩
      obtain ⟨su251, esu251⟩ : ∃ n, n = su + K251.2 := ⟨_, rfl⟩
      rw [← ecu251, ← esu251]
      replace hu1 : cu251 + C251.1 = T.1 := by omega
      replace hu2 : su251 + C251.2 = T.2 := by omega
      clear ecu251 esu251 eC1 eC2
      refine lv_istore (lv' := [(5, .int v251.1), (0, .ref o), (1, .ref (wA o k1)), (2, .ref (o + 61)), (4, .int x4)]) hx hb dX1_portLine_254 hl (by decide) rfl (fun ls hl => ?_)
      refine lv_aload_n hx hb dX1_portLine_256 rfl (lv_at hl 2 rfl) ?_
      refine ggetN hx hb hts in_X2 hown hE.1.1 (hI.1.w k1 hk1 0 rfl) rfl 9 (by decide) (hE.1.2.2.f 11 rfl) rfl dX1_portLine_257 ?_
      refine lv_iload hx hb dX1_portLine_260 (lv_at hl 0 rfl) ?_
      refine lv_aload_n hx hb dX1_portLine_262 rfl (lv_at hl 3 rfl) ?_
      refine lv_iconst (v := (0 : Int32)) hx hb dX1_portLine_263 (by decide) ?_
      refine lv_bipush (v := (9 : Int32)) hx hb dX1_portLine_264 (by decide) ?_
      obtain ⟨x266, K266, C266, ex266, hf, eC1, eC2⟩ := pcl_e hf
      refine pcallI (rest := [.int v251.1, .ref (wA o k1 + 1)]) hx hb hts hst hown hEP hI hml hl.1 (mX3_number Λ Λn v251.2 (0 : Int32) (9 : Int32) _ _ ex266) (cwX3_number_X1 hts ⟨Nat.le_of_ble_eq_true rfl, Nat.le_of_ble_eq_true rfl⟩) (hI.1.o 1 rfl) rfl rfl ⟨(show cu251 + K266.1 ≤ T.1 by omega), (show su251 + K266.2 ≤ T.2 by omega)⟩ rfl rfl (lv_room (Nat.le_of_ble_eq_true rfl)) dX1_portLine_266 (fun E ce q9 σ' H locs ho hn hI h1 h2 h3 => by subst ho; replace hf := selR hf; obtain ⟨ho, hK⟩ := pr_e hf; exact hxx H locs 266 ls _ _ _ E ce q9 _ hI ho hn h1 h2 h3 (show cu251 + K266.1 ≤ T.1 by omega) (show su251 + K266.2 ≤ T.2 by omega)) (fun v266 H locs ho hI => ?_)
      subst ho
      replace hf := selL hf
      obtain ⟨cu266, ecu266⟩ : ∃ n, n = cu251 + K266.1 := ⟨_, rfl⟩
      obtain ⟨su266, esu266⟩ : ∃ n, n = su251 + K266.2 := ⟨_, rfl⟩
      rw [← ecu266, ← esu266]
      replace hu1 : cu266 + C266.1 = T.1 := by omega
      replace hu2 : su266 + C266.2 = T.2 := by omega
      clear ecu266 esu266 eC1 eC2
      obtain ⟨g269, eg269, hf⟩ := obd hf
      obtain ⟨t269, et269, hf⟩ := obd hf
      refine gast hx hb hE.1.1 0 (hI.1.w k1 hk1 1 rfl) rfl eg269 dX1_portLine_269 (fun H locs h1 h2 h3 h4 => ?_)
      have hI := hI.putW (k := k1) (w' := mset (cw v266.2 k1) 9 g269) (P := 1) hk1 rfl rfl h1 h2 h3 h4
      rw [Option.some.inj et269] at hI
      obtain ⟨ho, -⟩ := pr_e hf
      exact hret H locs 270 ls _ _ _ hI ho (leC hu1) (leC hu2) dX1_portLine_270
    replace hf := ineg hs189_3 hf
    by_cases hs189_4 : x4 = (4 : Int32)
    · replace hf := ipos hs189_4 hf
      refine lv_tableIn (off := 82) (tgt := 271) hx hb dX1_portLine_189 (by rw [hs189_4]; decide) (by rw [hs189_4]; decide) (by rw [hs189_4]; rfl) (by decide) ?_
      refine lv_aload_n hx hb dX1_portLine_271 rfl (lv_at hl 1 rfl) ?_
      refine lv_aload_n hx hb dX1_portLine_272 rfl (lv_at hl 2 rfl) ?_
      refine lv_iconst (v := (0 : Int32)) hx hb dX1_portLine_273 (by decide) ?_
      refine lv_bipush (v := (9 : Int32)) hx hb dX1_portLine_274 (by decide) ?_
      obtain ⟨x276, K276, C276, ex276, hf, eC1, eC2⟩ := pcl_e hf
      refine pcallI (rest := [.ref (wA o k1)]) hx hb hts hst hown hEP hI hml hl.1 (mX3_number Λ Λn τ (0 : Int32) (9 : Int32) _ _ ex276) (cwX3_number_X1 hts ⟨Nat.le_of_ble_eq_true rfl, Nat.le_of_ble_eq_true rfl⟩) (hI.1.o 1 rfl) rfl rfl ⟨(show cu + K276.1 ≤ T.1 by omega), (show su + K276.2 ≤ T.2 by omega)⟩ rfl rfl (lv_room (Nat.le_of_ble_eq_true rfl)) dX1_portLine_276 (fun E ce q9 σ' H locs ho hn hI h1 h2 h3 => by subst ho; replace hf := selR hf; obtain ⟨ho, hK⟩ := pr_e hf; exact hxx H locs 276 ls _ _ _ E ce q9 _ hI ho hn h1 h2 h3 (show cu + K276.1 ≤ T.1 by omega) (show su + K276.2 ≤ T.2 by omega)) (fun v276 H locs ho hI => ?_)
      subst ho
      replace hf := selL hf
      obtain ⟨cu276, ecu276⟩ : ∃ n, n = cu + K276.1 := ⟨_, rfl⟩
      obtain ⟨su276, esu276⟩ : ∃ n, n = su + K276.2 := ⟨_, rfl⟩
      rw [← ecu276, ← esu276]
      replace hu1 : cu276 + C276.1 = T.1 := by omega
      replace hu2 : su276 + C276.2 = T.2 := by omega
      clear ecu276 esu276 eC1 eC2
      obtain ⟨t279, et279, hf⟩ := obd hf
      refine gputN hx hb hts in_X2 tyX2 tyX2_ok nmX2 hown hE.1.1 (hI.1.w k1 hk1 0 rfl) rfl 5 (by decide) (hE.1.2.2.f 7 rfl) rfl rfl rfl (Nat.le_of_ble_eq_true rfl) dX1_portLine_279 (fun H locs h1 h2 h3 h4 => ?_)
      have hI := hI.putW (k := k1) (P := 0) (w' := mup (cw v276.2 k1) 0 5 v276.1) hk1 rfl rfl h1 h2 h3 h4
      rw [Option.some.inj et279] at hI
      obtain ⟨ho, -⟩ := pr_e hf
      exact hret H locs 282 ls _ _ _ hI ho (leC hu1) (leC hu2) dX1_portLine_282
    replace hf := ineg hs189_4 hf
    by_cases hs189_5 : x4 = (5 : Int32)
    · replace hf := ipos hs189_5 hf
      refine lv_tableIn (off := 94) (tgt := 283) hx hb dX1_portLine_189 (by rw [hs189_5]; decide) (by rw [hs189_5]; decide) (by rw [hs189_5]; rfl) (by decide) ?_
      refine lv_aload_n hx hb dX1_portLine_283 rfl (lv_at hl 1 rfl) ?_
      refine lv_aload_n hx hb dX1_portLine_284 rfl (lv_at hl 2 rfl) ?_
      refine lv_iconst (v := (0 : Int32)) hx hb dX1_portLine_285 (by decide) ?_
      refine lv_bipush (v := (100 : Int32)) hx hb dX1_portLine_286 (by decide) ?_
      obtain ⟨x288, K288, C288, ex288, hf, eC1, eC2⟩ := pcl_e hf
      refine pcallI (rest := [.ref (wA o k1)]) hx hb hts hst hown hEP hI hml hl.1 (mX3_number Λ Λn τ (0 : Int32) (100 : Int32) _ _ ex288) (cwX3_number_X1 hts ⟨Nat.le_of_ble_eq_true rfl, Nat.le_of_ble_eq_true rfl⟩) (hI.1.o 1 rfl) rfl rfl ⟨(show cu + K288.1 ≤ T.1 by omega), (show su + K288.2 ≤ T.2 by omega)⟩ rfl rfl (lv_room (Nat.le_of_ble_eq_true rfl)) dX1_portLine_288 (fun E ce q9 σ' H locs ho hn hI h1 h2 h3 => by subst ho; replace hf := selR hf; obtain ⟨ho, hK⟩ := pr_e hf; exact hxx H locs 288 ls _ _ _ E ce q9 _ hI ho hn h1 h2 h3 (show cu + K288.1 ≤ T.1 by omega) (show su + K288.2 ≤ T.2 by omega)) (fun v288 H locs ho hI => ?_)
      subst ho
      replace hf := selL hf
      obtain ⟨cu288, ecu288⟩ : ∃ n, n = cu + K288.1 := ⟨_, rfl⟩
      obtain ⟨su288, esu288⟩ : ∃ n, n = su + K288.2 := ⟨_, rfl⟩
      rw [← ecu288, ← esu288]
      replace hu1 : cu288 + C288.1 = T.1 := by omega
      replace hu2 : su288 + C288.2 = T.2 := by omega
      clear ecu288 esu288 eC1 eC2
      obtain ⟨t291, et291, hf⟩ := obd hf
      refine gputN hx hb hts in_X2 tyX2 tyX2_ok nmX2 hown hE.1.1 (hI.1.w k1 hk1 0 rfl) rfl 6 (by decide) (hE.1.2.2.f 8 rfl) rfl rfl rfl (Nat.le_of_ble_eq_true rfl) dX1_portLine_291 (fun H locs h1 h2 h3 h4 => ?_)
      have hI := hI.putW (k := k1) (P := 0) (w' := mup (cw v288.2 k1) 0 6 v288.1) hk1 rfl rfl h1 h2 h3 h4
      rw [Option.some.inj et291] at hI
      obtain ⟨ho, -⟩ := pr_e hf
      exact hret H locs 294 ls _ _ _ hI ho (leC hu1) (leC hu2) dX1_portLine_294
    replace hf := ineg hs189_5 hf
    by_cases hs189_6 : x4 = (6 : Int32)
    · replace hf := ipos hs189_6 hf
      refine lv_tableIn (off := 106) (tgt := 295) hx hb dX1_portLine_189 (by rw [hs189_6]; decide) (by rw [hs189_6]; decide) (by rw [hs189_6]; rfl) (by decide) ?_
      refine lv_aload_n hx hb dX1_portLine_295 rfl (lv_at hl 1 rfl) ?_
      refine ggetN hx hb hts in_X2 hown hE.1.1 (hI.1.w k1 hk1 0 rfl) rfl 3 (by decide) (hE.1.2.2.f 5 rfl) rfl dX1_portLine_296 ?_
      refine lv_if_le (tgt := 307) hx hb dX1_portLine_299 (by decide) (fun hc => ?_) (fun hc => ?_)
      · replace hf := ipos hc hf
        refine lv_aload_n hx hb dX1_portLine_307 rfl (lv_at hl 1 rfl) ?_
        refine lv_aload_n hx hb dX1_portLine_308 rfl (lv_at hl 2 rfl) ?_
        refine lv_iconst (v := (0 : Int32)) hx hb dX1_portLine_309 (by decide) ?_
        refine lv_sipush (v := (999 : Int32)) hx hb dX1_portLine_310 (by decide) ?_
        obtain ⟨x313, K313, C313, ex313, hf, eC1, eC2⟩ := pcl_e hf
        refine pcallI (rest := [.ref (wA o k1)]) hx hb hts hst hown hEP hI hml hl.1 (mX3_number Λ Λn τ (0 : Int32) (999 : Int32) _ _ ex313) (cwX3_number_X1 hts ⟨Nat.le_of_ble_eq_true rfl, Nat.le_of_ble_eq_true rfl⟩) (hI.1.o 1 rfl) rfl rfl ⟨(show cu + K313.1 ≤ T.1 by omega), (show su + K313.2 ≤ T.2 by omega)⟩ rfl rfl (lv_room (Nat.le_of_ble_eq_true rfl)) dX1_portLine_313 (fun E ce q9 σ' H locs ho hn hI h1 h2 h3 => by subst ho; replace hf := selR hf; obtain ⟨ho, hK⟩ := pr_e hf; exact hxx H locs 313 ls _ _ _ E ce q9 _ hI ho hn h1 h2 h3 (show cu + K313.1 ≤ T.1 by omega) (show su + K313.2 ≤ T.2 by omega)) (fun v313 H locs ho hI => ?_)
        subst ho
        replace hf := selL hf
        obtain ⟨cu313, ecu313⟩ : ∃ n, n = cu + K313.1 := ⟨_, rfl⟩
        obtain ⟨su313, esu313⟩ : ∃ n, n = su + K313.2 := ⟨_, rfl⟩
        rw [← ecu313, ← esu313]
        replace hu1 : cu313 + C313.1 = T.1 := by omega
        replace hu2 : su313 + C313.2 = T.2 := by omega
        clear ecu313 esu313 eC1 eC2
        obtain ⟨t316, et316, hf⟩ := obd hf
        refine gputN hx hb hts in_X2 tyX2 tyX2_ok nmX2 hown hE.1.1 (hI.1.w k1 hk1 0 rfl) rfl 4 (by decide) (hE.1.2.2.f 6 rfl) rfl rfl rfl (Nat.le_of_ble_eq_true rfl) dX1_portLine_316 (fun H locs h1 h2 h3 h4 => ?_)
        have hI := hI.putW (k := k1) (P := 0) (w' := mup (cw v313.2 k1) 0 4 v313.1) hk1 rfl rfl h1 h2 h3 h4
        rw [Option.some.inj et316] at hI
        obtain ⟨ho, -⟩ := pr_e hf
        exact hret H locs 319 ls _ _ _ hI ho (leC hu1) (leC hu2) dX1_portLine_319
      · replace hf := ineg hc hf
        refine lv_aload_n hx hb dX1_portLine_302 rfl (lv_at hl 2 rfl) ?_
        obtain ⟨ho, hK⟩ := pr_e hf
        have hK1 : C.1 = 1 := congrArg Prod.fst hK
        have hK2 : C.2 = 6 := congrArg Prod.snd hK
        have hu3 : cu + 1 = T.1 := by omega
        have hu4 : su + 6 = T.2 := by omega
        refine pwrong (rest := []) hx hb hts hst hown hEP hI hml hl.1 (cwX3_wrong_X1 hts ⟨Nat.le_of_ble_eq_true rfl, Nat.le_of_ble_eq_true rfl⟩) ⟨Nat.le_of_eq hu3, Nat.le_of_eq hu4⟩ (lv_room (Nat.le_of_ble_eq_true rfl)) dX1_portLine_303 dX1_portLine_306 (fun E ce q9 H locs hn hI h1 h2 h3 => ?_)
        exact hxx H locs 306 ls _ _ _ E ce q9 _ hI ho hn h1 h2 h3 (Nat.le_of_eq hu3) (Nat.le_of_eq hu4)
    replace hf := ineg hs189_6 hf
    refine lv_tableOut (tgt := 320) hx hb dX1_portLine_189 (tswOut (n := 6) (by decide) (fun k hk => ?_)) (by decide) ?_
    · match k, hk with
      | 0, _ => exact hs189_0
      | 1, _ => exact hs189_1
      | 2, _ => exact hs189_2
      | 3, _ => exact hs189_3
      | 4, _ => exact hs189_4
      | 5, _ => exact hs189_5
      | 6, _ => exact hs189_6
    refine lv_aload_n hx hb dX1_portLine_320 rfl (lv_at hl 2 rfl) ?_
    obtain ⟨ho, hK⟩ := pr_e hf
    have hK1 : C.1 = 1 := congrArg Prod.fst hK
    have hK2 : C.2 = 6 := congrArg Prod.snd hK
    have hu3 : cu + 1 = T.1 := by omega
    have hu4 : su + 6 = T.2 := by omega
    refine pwrong (rest := []) hx hb hts hst hown hEP hI hml hl.1 (cwX3_wrong_X1 hts ⟨Nat.le_of_ble_eq_true rfl, Nat.le_of_ble_eq_true rfl⟩) ⟨Nat.le_of_eq hu3, Nat.le_of_eq hu4⟩ (lv_room (Nat.le_of_ble_eq_true rfl)) dX1_portLine_321 dX1_portLine_324 (fun E ce q9 H locs hn hI h1 h2 h3 => ?_)
    exact hxx H locs 324 ls _ _ _ E ce q9 _ hI ho hn h1 h2 h3 (Nat.le_of_eq hu3) (Nat.le_of_eq hu4)
  refine lv_aload_n hx hb dX1_portLine_0 rfl (lv_at hl 0 rfl) ?_
  refine gget hx hb hts in_X1 hown hE.1.1 (hI.1.o 0 rfl) rfl 4 (by decide) q469 rfl dX1_portLine_1 ?_
  refine lv_astore_n (lv' := [(2, .ref (o + 61)), (0, .ref o), (1, .ref (wA o k1))]) hx hb dX1_portLine_4 rfl hl (by decide) rfl (fun ls hl => ?_)
  refine lv_aload_n hx hb dX1_portLine_5 rfl (lv_at hl 0 rfl) ?_
  obtain ⟨t6, et6, hf⟩ := obd hf
  obtain ⟨C6, hf, eC1, eC2⟩ := addc_e hf
  replace eC1 : T.1 = wC t6 + C6.1 := eC1
  replace eC2 : T.2 = wS t6 + C6.2 := eC2
  refine pword (rest := []) hx hb hts hown hEP hI hml hl.1 et6 (cwX3_word_X1 hts ⟨Nat.le_of_ble_eq_true rfl, Nat.le_of_ble_eq_true rfl⟩) ⟨(show 0 + wC t6 ≤ T.1 by omega), (show 0 + wS t6 ≤ T.2 by omega)⟩ (lv_room (Nat.le_of_ble_eq_true rfl)) dX1_portLine_6 (fun st6 vast6 H locs hI hsst6 => ?_)
  obtain ⟨cu6, ecu6⟩ : ∃ n, n = 0 + wC t6 := ⟨_, rfl⟩
  obtain ⟨su6, esu6⟩ : ∃ n, n = 0 + wS t6 := ⟨_, rfl⟩
  rw [← ecu6, ← esu6]
  replace hu1 : cu6 + C6.1 = T.1 := by omega
  replace hu2 : su6 + C6.2 = T.2 := by omega
  clear ecu6 esu6 eC1 eC2
  refine lv_astore_n (lv' := [(3, .ref st6), (2, .ref (o + 61)), (0, .ref o), (1, .ref (wA o k1))]) hx hb dX1_portLine_9 rfl hl (by decide) rfl (fun ls hl => ?_)
  refine lv_iconst (v := (-1 : Int32)) hx hb dX1_portLine_10 (by decide) ?_
  refine lv_istore (lv' := [(4, .int (-1 : Int32)), (3, .ref st6), (2, .ref (o + 61)), (0, .ref o), (1, .ref (wA o k1))]) hx hb dX1_portLine_11 hl (by decide) rfl (fun ls hl => ?_)
  refine lv_aload_n hx hb dX1_portLine_13 rfl (lv_at hl 1 rfl) ?_
  refine phash (rest := []) hx hb hts hown hEP hI hml hl.1 hsst6 (cwJ6_hashCode_X1 hts ⟨Nat.le_of_ble_eq_true rfl, Nat.le_of_ble_eq_true rfl⟩) ⟨leC hu1, leC hu2⟩ (lv_room (Nat.le_of_ble_eq_true rfl)) dX1_portLine_14 (fun hhst6 hzst6 H locs hI hsst6 => ?_)
  by_cases hs17_0 : (whash t6) = (104422 : Int32)
  · replace hf := ipos hs17_0 hf
    refine lv_lookup (off := 82) (tgt := 99) hx hb dX1_portLine_17 (by decide) (by rw [hs17_0]; decide) (by decide) ?_
    refine lv_aload_n hx hb dX1_portLine_99 rfl (lv_at hl 1 rfl) ?_
    refine va_ldcS hx hb hown (hE.1.2.1.at 3 rfl) dX1_portLine_100 ?_
    refine pequals (rest := []) hx hb hts hown hEP hI hml hl.1 hsst6 (by decide) (cwJ6_equals_X1 hts ⟨Nat.le_of_ble_eq_true rfl, Nat.le_of_ble_eq_true rfl⟩) ⟨leC hu1, leC hu2⟩ (lv_room (Nat.le_of_ble_eq_true rfl)) dX1_portLine_102 (fun H locs hI hsst6 => ?_)
    refine lv_if_eq (tgt := 187) hx hb dX1_portLine_105 (by decide) (fun hc => ?_) (fun hc => ?_)
    · replace hf := ipos hc hf
      exact hJ187 t6 (-1 : Int32) _ H locs ls hf _ _ hu1 hu2 hI (lv_sub hl [3, 4, 2, 0] rfl)
    · replace hf := ineg hc hf
      refine lv_iconst (v := (1 : Int32)) hx hb dX1_portLine_108 (by decide) ?_
      refine lv_istore (lv' := [(4, .int (1 : Int32)), (3, .ref st6), (2, .ref (o + 61)), (0, .ref o), (1, .ref (wA o k1))]) hx hb dX1_portLine_109 hl (by decide) rfl (fun ls hl => ?_)
      refine lv_goto (tgt := 187) hx hb dX1_portLine_111 (by decide) ?_
      exact hJ187 t6 (1 : Int32) _ H locs ls hf _ _ hu1 hu2 hI (lv_sub hl [3, 4, 2, 0] rfl)
  replace hf := ineg hs17_0 hf
  by_cases hs17_1 : (whash t6) = (3075808 : Int32)
  · replace hf := ipos hs17_1 hf
    refine lv_lookup (off := 112) (tgt := 129) hx hb dX1_portLine_17 (by decide) (by rw [hs17_1]; decide) (by decide) ?_
    refine lv_aload_n hx hb dX1_portLine_129 rfl (lv_at hl 1 rfl) ?_
    refine va_ldcS hx hb hown (hE.1.2.1.at 5 rfl) dX1_portLine_130 ?_
    refine pequals (rest := []) hx hb hts hown hEP hI hml hl.1 hsst6 (by decide) (cwJ6_equals_X1 hts ⟨Nat.le_of_ble_eq_true rfl, Nat.le_of_ble_eq_true rfl⟩) ⟨leC hu1, leC hu2⟩ (lv_room (Nat.le_of_ble_eq_true rfl)) dX1_portLine_132 (fun H locs hI hsst6 => ?_)
    refine lv_if_eq (tgt := 187) hx hb dX1_portLine_135 (by decide) (fun hc => ?_) (fun hc => ?_)
    · replace hf := ipos hc hf
      exact hJ187 t6 (-1 : Int32) _ H locs ls hf _ _ hu1 hu2 hI (lv_sub hl [3, 4, 2, 0] rfl)
    · replace hf := ineg hc hf
      refine lv_iconst (v := (3 : Int32)) hx hb dX1_portLine_138 (by decide) ?_
      refine lv_istore (lv' := [(4, .int (3 : Int32)), (3, .ref st6), (2, .ref (o + 61)), (0, .ref o), (1, .ref (wA o k1))]) hx hb dX1_portLine_139 hl (by decide) rfl (fun ls hl => ?_)
      refine lv_goto (tgt := 187) hx hb dX1_portLine_141 (by decide) ?_
      exact hJ187 t6 (3 : Int32) _ H locs ls hf _ _ hu1 hu2 hI (lv_sub hl [3, 4, 2, 0] rfl)
  replace hf := ineg hs17_1 hf
  by_cases hs17_2 : (whash t6) = (3079392 : Int32)
  · replace hf := ipos hs17_2 hf
    refine lv_lookup (off := 97) (tgt := 114) hx hb dX1_portLine_17 (by decide) (by rw [hs17_2]; decide) (by decide) ?_
    refine lv_aload_n hx hb dX1_portLine_114 rfl (lv_at hl 1 rfl) ?_
    refine va_ldcS hx hb hown (hE.1.2.1.at 4 rfl) dX1_portLine_115 ?_
    refine pequals (rest := []) hx hb hts hown hEP hI hml hl.1 hsst6 (by decide) (cwJ6_equals_X1 hts ⟨Nat.le_of_ble_eq_true rfl, Nat.le_of_ble_eq_true rfl⟩) ⟨leC hu1, leC hu2⟩ (lv_room (Nat.le_of_ble_eq_true rfl)) dX1_portLine_117 (fun H locs hI hsst6 => ?_)
    refine lv_if_eq (tgt := 187) hx hb dX1_portLine_120 (by decide) (fun hc => ?_) (fun hc => ?_)
    · replace hf := ipos hc hf
      exact hJ187 t6 (-1 : Int32) _ H locs ls hf _ _ hu1 hu2 hI (lv_sub hl [3, 4, 2, 0] rfl)
    · replace hf := ineg hc hf
      refine lv_iconst (v := (2 : Int32)) hx hb dX1_portLine_123 (by decide) ?_
      refine lv_istore (lv' := [(4, .int (2 : Int32)), (3, .ref st6), (2, .ref (o + 61)), (0, .ref o), (1, .ref (wA o k1))]) hx hb dX1_portLine_124 hl (by decide) rfl (fun ls hl => ?_)
      refine lv_goto (tgt := 187) hx hb dX1_portLine_126 (by decide) ?_
      exact hJ187 t6 (2 : Int32) _ H locs ls hf _ _ hu1 hu2 hI (lv_sub hl [3, 4, 2, 0] rfl)
  replace hf := ineg hs17_2 hf
  by_cases hs17_3 : (whash t6) = (3522646 : Int32)
  · replace hf := ipos hs17_3 hf
    refine lv_lookup (off := 127) (tgt := 144) hx hb dX1_portLine_17 (by decide) (by rw [hs17_3]; decide) (by decide) ?_
    refine lv_aload_n hx hb dX1_portLine_144 rfl (lv_at hl 1 rfl) ?_
    refine va_ldcS hx hb hown (hE.1.2.1.at 6 rfl) dX1_portLine_145 ?_
    refine pequals (rest := []) hx hb hts hown hEP hI hml hl.1 hsst6 (by decide) (cwJ6_equals_X1 hts ⟨Nat.le_of_ble_eq_true rfl, Nat.le_of_ble_eq_true rfl⟩) ⟨leC hu1, leC hu2⟩ (lv_room (Nat.le_of_ble_eq_true rfl)) dX1_portLine_147 (fun H locs hI hsst6 => ?_)
    refine lv_if_eq (tgt := 187) hx hb dX1_portLine_150 (by decide) (fun hc => ?_) (fun hc => ?_)
    · replace hf := ipos hc hf
      exact hJ187 t6 (-1 : Int32) _ H locs ls hf _ _ hu1 hu2 hI (lv_sub hl [3, 4, 2, 0] rfl)
    · replace hf := ineg hc hf
      refine lv_iconst (v := (4 : Int32)) hx hb dX1_portLine_153 (by decide) ?_
      refine lv_istore (lv' := [(4, .int (4 : Int32)), (3, .ref st6), (2, .ref (o + 61)), (0, .ref o), (1, .ref (wA o k1))]) hx hb dX1_portLine_154 hl (by decide) rfl (fun ls hl => ?_)
      refine lv_goto (tgt := 187) hx hb dX1_portLine_156 (by decide) ?_
      exact hJ187 t6 (4 : Int32) _ H locs ls hf _ _ hu1 hu2 hI (lv_sub hl [3, 4, 2, 0] rfl)
  replace hf := ineg hs17_3 hf
  by_cases hs17_4 : (whash t6) = (3560141 : Int32)
  · replace hf := ipos hs17_4 hf
    refine lv_lookup (off := 157) (tgt := 174) hx hb dX1_portLine_17 (by decide) (by rw [hs17_4]; decide) (by decide) ?_
    refine lv_aload_n hx hb dX1_portLine_174 rfl (lv_at hl 1 rfl) ?_
    refine va_ldcS hx hb hown (hE.1.2.1.at 8 rfl) dX1_portLine_175 ?_
    refine pequals (rest := []) hx hb hts hown hEP hI hml hl.1 hsst6 (by decide) (cwJ6_equals_X1 hts ⟨Nat.le_of_ble_eq_true rfl, Nat.le_of_ble_eq_true rfl⟩) ⟨leC hu1, leC hu2⟩ (lv_room (Nat.le_of_ble_eq_true rfl)) dX1_portLine_177 (fun H locs hI hsst6 => ?_)
    refine lv_if_eq (tgt := 187) hx hb dX1_portLine_180 (by decide) (fun hc => ?_) (fun hc => ?_)
    · replace hf := ipos hc hf
      exact hJ187 t6 (-1 : Int32) _ H locs ls hf _ _ hu1 hu2 hI (lv_sub hl [3, 4, 2, 0] rfl)
    · replace hf := ineg hc hf
      refine lv_bipush (v := (6 : Int32)) hx hb dX1_portLine_183 (by decide) ?_
      refine lv_istore (lv' := [(4, .int (6 : Int32)), (3, .ref st6), (2, .ref (o + 61)), (0, .ref o), (1, .ref (wA o k1))]) hx hb dX1_portLine_185 hl (by decide) rfl (fun ls hl => ?_)
      exact hJ187 t6 (6 : Int32) _ H locs ls hf _ _ hu1 hu2 hI (lv_sub hl [3, 4, 2, 0] rfl)
  replace hf := ineg hs17_4 hf
  by_cases hs17_5 : (whash t6) = (106437350 : Int32)
  · replace hf := ipos hs17_5 hf
    refine lv_lookup (off := 67) (tgt := 84) hx hb dX1_portLine_17 (by decide) (by rw [hs17_5]; decide) (by decide) ?_
    refine lv_aload_n hx hb dX1_portLine_84 rfl (lv_at hl 1 rfl) ?_
    refine va_ldcS hx hb hown (hE.1.2.1.at 2 rfl) dX1_portLine_85 ?_
    refine pequals (rest := []) hx hb hts hown hEP hI hml hl.1 hsst6 (by decide) (cwJ6_equals_X1 hts ⟨Nat.le_of_ble_eq_true rfl, Nat.le_of_ble_eq_true rfl⟩) ⟨leC hu1, leC hu2⟩ (lv_room (Nat.le_of_ble_eq_true rfl)) dX1_portLine_87 (fun H locs hI hsst6 => ?_)
    refine lv_if_eq (tgt := 187) hx hb dX1_portLine_90 (by decide) (fun hc => ?_) (fun hc => ?_)
    · replace hf := ipos hc hf
      exact hJ187 t6 (-1 : Int32) _ H locs ls hf _ _ hu1 hu2 hI (lv_sub hl [3, 4, 2, 0] rfl)
    · replace hf := ineg hc hf
      refine lv_iconst (v := (0 : Int32)) hx hb dX1_portLine_93 (by decide) ?_
      refine lv_istore (lv' := [(4, .int (0 : Int32)), (3, .ref st6), (2, .ref (o + 61)), (0, .ref o), (1, .ref (wA o k1))]) hx hb dX1_portLine_94 hl (by decide) rfl (fun ls hl => ?_)
      refine lv_goto (tgt := 187) hx hb dX1_portLine_96 (by decide) ?_
      exact hJ187 t6 (0 : Int32) _ H locs ls hf _ _ hu1 hu2 hI (lv_sub hl [3, 4, 2, 0] rfl)
  replace hf := ineg hs17_5 hf
  by_cases hs17_6 : (whash t6) = (109654189 : Int32)
  · replace hf := ipos hs17_6 hf
    refine lv_lookup (off := 142) (tgt := 159) hx hb dX1_portLine_17 (by decide) (by rw [hs17_6]; decide) (by decide) ?_
    refine lv_aload_n hx hb dX1_portLine_159 rfl (lv_at hl 1 rfl) ?_
    refine va_ldcS hx hb hown (hE.1.2.1.at 7 rfl) dX1_portLine_160 ?_
    refine pequals (rest := []) hx hb hts hown hEP hI hml hl.1 hsst6 (by decide) (cwJ6_equals_X1 hts ⟨Nat.le_of_ble_eq_true rfl, Nat.le_of_ble_eq_true rfl⟩) ⟨leC hu1, leC hu2⟩ (lv_room (Nat.le_of_ble_eq_true rfl)) dX1_portLine_162 (fun H locs hI hsst6 => ?_)
    refine lv_if_eq (tgt := 187) hx hb dX1_portLine_165 (by decide) (fun hc => ?_) (fun hc => ?_)
    · replace hf := ipos hc hf
      exact hJ187 t6 (-1 : Int32) _ H locs ls hf _ _ hu1 hu2 hI (lv_sub hl [3, 4, 2, 0] rfl)
    · replace hf := ineg hc hf
      refine lv_iconst (v := (5 : Int32)) hx hb dX1_portLine_168 (by decide) ?_
      refine lv_istore (lv' := [(4, .int (5 : Int32)), (3, .ref st6), (2, .ref (o + 61)), (0, .ref o), (1, .ref (wA o k1))]) hx hb dX1_portLine_169 hl (by decide) rfl (fun ls hl => ?_)
      refine lv_goto (tgt := 187) hx hb dX1_portLine_171 (by decide) ?_
      exact hJ187 t6 (5 : Int32) _ H locs ls hf _ _ hu1 hu2 hI (lv_sub hl [3, 4, 2, 0] rfl)
  replace hf := ineg hs17_6 hf
  refine lv_lookup (off := 170) (tgt := 187) hx hb dX1_portLine_17 (by decide) (by show Op.lookupswitch.offset [((104422 : Int), (82 : Int)), ((3075808 : Int), (112 : Int)), ((3079392 : Int), (97 : Int)), ((3522646 : Int), (127 : Int)), ((3560141 : Int), (157 : Int)), ((106437350 : Int), (67 : Int)), ((109654189 : Int), (142 : Int))] 170 _ = 170; rw [Op.lookupswitch.offset_cons, if_neg (lkN hs17_0 (by decide)), Op.lookupswitch.offset_cons, if_neg (lkN hs17_1 (by decide)), Op.lookupswitch.offset_cons, if_neg (lkN hs17_2 (by decide)), Op.lookupswitch.offset_cons, if_neg (lkN hs17_3 (by decide)), Op.lookupswitch.offset_cons, if_neg (lkN hs17_4 (by decide)), Op.lookupswitch.offset_cons, if_neg (lkN hs17_5 (by decide)), Op.lookupswitch.offset_cons, if_neg (lkN hs17_6 (by decide)), Op.lookupswitch.offset_nil]) (by decide) ?_
  exact hJ187 t6 (-1 : Int32) _ H locs ls hf _ _ hu1 hu2 hI (lv_sub hl [3, 4, 2, 0] rfl)

def X1_noMore (τ : Cs) (a1 : Int32) (a2 : Int32) : Option (Po × Kc) :=
  if a2 ≤ a1 then
    (X3_word τ).bind fun t10 => addc (wC t10, wS t10) (
    some (.inr t10, (1, 6)))
  else
    some (.inl ((0 : Int32), τ), (0, 0))
set_option maxHeartbeats 4000000 in
theorem mX1_noMore (Λ : Nat → Nat → (Nat → Int32) → Int32) (Λn : Nat → Int32) (τ : Cs) (a1 : Int32) (a2 : Int32) (out : Po) (T : Kc) (hf : X1_noMore τ a1 a2 = some (out, T)) : PXv yX1_noMore cX1_noMore 3 (none) 15 1522 Λ Λn (fun o aK aF => [.ref o, .int a1, .int a2]) out T τ := by
  refine PXv.of (by decide) (fun _ _ _ => Nat.le_of_ble_eq_true rfl) ?_
  intro p l e s m args below meth c D8 D J o z aK aV G Ld aF N9 Q ls hst hx hb hml hown hts hEP hret hxx hI hl
  have hE := hEP.1
  obtain ⟨H, eH⟩ : ∃ H, H = s.heap := ⟨_, rfl⟩
  obtain ⟨locs, eL⟩ : ∃ L : List Loc, L = [] := ⟨_, rfl⟩
  rw [← eH, ← eL] at hI ⊢
  have hown : s.vm.findClass RX1 = some m.cls := hown
  have hu1 : 0 + T.1 = T.1 := Nat.zero_add _
  have hu2 : 0 + T.2 = T.2 := Nat.zero_add _
  have hl : lv_has ls 3 [(0, .ref o), (1, .int a1), (2, .int a2)] := hl
  unfold X1_noMore at hf
  refine lv_iload_n hx hb dX1_noMore_0 rfl (lv_at hl 1 rfl) ?_
  refine lv_iload_n hx hb dX1_noMore_1 rfl (lv_at hl 2 rfl) ?_
  refine lv_icmp_ge (tgt := 6) hx hb dX1_noMore_2 (by decide) (fun hc => ?_) (fun hc => ?_)
  · replace hf := ipos hc hf
    refine lv_aload_n hx hb dX1_noMore_6 rfl (lv_at hl 0 rfl) ?_
    refine gget hx hb hts in_X1 hown hE.1.1 (hI.1.o 0 rfl) rfl 4 (by decide) q469 rfl dX1_noMore_7 ?_
    obtain ⟨t10, et10, hf⟩ := obd hf
    obtain ⟨C10, hf, eC1, eC2⟩ := addc_e hf
    replace eC1 : T.1 = wC t10 + C10.1 := eC1
    replace eC2 : T.2 = wS t10 + C10.2 := eC2
    refine pword (rest := []) hx hb hts hown hEP hI hml hl.1 et10 (cwX3_word_X1 hts ⟨Nat.le_of_ble_eq_true rfl, Nat.le_of_ble_eq_true rfl⟩) ⟨(show 0 + wC t10 ≤ T.1 by omega), (show 0 + wS t10 ≤ T.2 by omega)⟩ (lv_room (Nat.le_of_ble_eq_true rfl)) dX1_noMore_10 (fun st10 vast10 H locs hI hsst10 => ?_)
    obtain ⟨cu10, ecu10⟩ : ∃ n, n = 0 + wC t10 := ⟨_, rfl⟩
    obtain ⟨su10, esu10⟩ : ∃ n, n = 0 + wS t10 := ⟨_, rfl⟩
    rw [← ecu10, ← esu10]
    replace hu1 : cu10 + C10.1 = T.1 := by omega
    replace hu2 : su10 + C10.2 = T.2 := by omega
    clear ecu10 esu10 eC1 eC2
    refine lv_pop hx hb dX1_noMore_13 rfl ?_
    refine lv_aload_n hx hb dX1_noMore_14 rfl (lv_at hl 0 rfl) ?_
    refine gget hx hb hts in_X1 hown hE.1.1 (hI.1.o 0 rfl) rfl 4 (by decide) q469 rfl dX1_noMore_15 ?_
    obtain ⟨ho, hK⟩ := pr_e hf
    have hK1 : C10.1 = 1 := congrArg Prod.fst hK
    have hK2 : C10.2 = 6 := congrArg Prod.snd hK
    have hu3 : cu10 + 1 = T.1 := by omega
    have hu4 : su10 + 6 = T.2 := by omega
    refine pwrong (rest := []) hx hb hts hst hown hEP hI hml hl.1 (cwX3_wrong_X1 hts ⟨Nat.le_of_ble_eq_true rfl, Nat.le_of_ble_eq_true rfl⟩) ⟨Nat.le_of_eq hu3, Nat.le_of_eq hu4⟩ (lv_room (Nat.le_of_ble_eq_true rfl)) dX1_noMore_18 dX1_noMore_21 (fun E ce q9 H locs hn hI h1 h2 h3 => ?_)
    exact hxx H locs 21 ls _ _ _ E ce q9 _ hI ho hn h1 h2 h3 (Nat.le_of_eq hu3) (Nat.le_of_eq hu4)
  · replace hf := ineg hc hf
    obtain ⟨ho, -⟩ := pr_e hf
    exact hret H locs 5 ls _ _ _ hI ho (leC hu1) (leC hu2) dX1_noMore_5

theorem cwX3_isOver_X1 {R : Room} {s : State} {args : Array Value} {fr lo : Nat} (hts : ∀ w ∈ lw_all, w.before args s = true) (hR : fr + 1 ≤ R.frames ∧ 8 + (1 + 11) + lo ≤ R.locals) : CallW R s args RX1 RX3 211 yX3_isOver cX3_isOver 1 (some .boolean) (ws_ yX3_isOver cX3_isOver 1 (some .boolean)) ({ frames := fr, cells := 0, slots := 0, locals := lo }) 0 0 0 :=
  cwV 0 hts (lw_V q846 q847 q848 q136 q849) rfl rfl rfl (by decide +kernel) hR
theorem cwX3_sign_X1 {R : Room} {s : State} {args : Array Value} {fr lo : Nat} (hts : ∀ w ∈ lw_all, w.before args s = true) (hR : fr + 1 ≤ R.frames ∧ 8 + (2 + 11) + lo ≤ R.locals) : CallW R s args RX1 RX3 225 yX3_sign cX3_sign 2 (some .boolean) (ws_ yX3_sign cX3_sign 2 (some .boolean)) ({ frames := fr, cells := 0, slots := 0, locals := lo }) 0 0 1 :=
  cwV 1 hts (lw_V q1359 q1360 q1361 q136 q1362) rfl rfl rfl (by decide +kernel) hR
def X1_goesOn (τ : Cs) : Option (Po × Kc) :=
  (X3_isOver τ).bind fun x4 =>
  if x4.1 = (0 : Int32) then
    (X3_sign x4.2 (59 : Int32)).bind fun x18 =>
    if x18.1 = (0 : Int32) then
      some (.inr x18.2, (1, 6))
    else
      some (.inl ((1 : Int32), x18.2), (0, 0))
  else
    some (.inl ((0 : Int32), x4.2), (0, 0))
set_option maxHeartbeats 4000000 in
theorem mX1_goesOn (Λ : Nat → Nat → (Nat → Int32) → Int32) (Λn : Nat → Int32) (τ : Cs) (out : Po) (T : Kc) (hf : X1_goesOn τ = some (out, T)) : PXi yX1_goesOn cX1_goesOn 1 (some .boolean) 8 320 Λ Λn (fun o aK aF => [.ref o]) out T τ := by
  refine PXz.of (by decide) (fun _ _ _ => Nat.le_of_ble_eq_true rfl) ?_
  intro p l e s m args below meth c D8 D J o z aK aV G Ld aF N9 Q ls hst hx hb hml hown hts hEP hret hxx hI hl
  have hE := hEP.1
  obtain ⟨H, eH⟩ : ∃ H, H = s.heap := ⟨_, rfl⟩
  obtain ⟨locs, eL⟩ : ∃ L : List Loc, L = [] := ⟨_, rfl⟩
  rw [← eH, ← eL] at hI ⊢
  have hown : s.vm.findClass RX1 = some m.cls := hown
  have hu1 : 0 + T.1 = T.1 := Nat.zero_add _
  have hu2 : 0 + T.2 = T.2 := Nat.zero_add _
  have hl : lv_has ls 1 [(0, .ref o)] := hl
  unfold X1_goesOn at hf
  refine lv_aload_n hx hb dX1_goesOn_0 rfl (lv_at hl 0 rfl) ?_
  refine gget hx hb hts in_X1 hown hE.1.1 (hI.1.o 0 rfl) rfl 4 (by decide) q469 rfl dX1_goesOn_1 ?_
  obtain ⟨x4, ex4, hf⟩ := obd hf
  refine pccallI (rest := []) hx hb hts hown hE hI hml hl.1 (mX3_isOver Λ Λn τ _ _ ex4) (cwX3_isOver_X1 hts ⟨Nat.le_of_ble_eq_true rfl, Nat.le_of_ble_eq_true rfl⟩) (hI.1.o 1 rfl) rfl rfl ⟨leC hu1, leC hu2⟩ rfl rfl (lv_room (Nat.le_of_ble_eq_true rfl)) dX1_goesOn_4 (fun H locs hI => ?_)
  refine lv_if_eq (tgt := 12) hx hb dX1_goesOn_7 (by decide) (fun hc => ?_) (fun hc => ?_)
  · replace hf := ipos hc hf
    refine lv_aload_n hx hb dX1_goesOn_12 rfl (lv_at hl 0 rfl) ?_
    refine gget hx hb hts in_X1 hown hE.1.1 (hI.1.o 0 rfl) rfl 4 (by decide) q469 rfl dX1_goesOn_13 ?_
    refine lv_bipush (v := (59 : Int32)) hx hb dX1_goesOn_16 (by decide) ?_
    obtain ⟨x18, ex18, hf⟩ := obd hf
    refine pccallI (rest := []) hx hb hts hown hE hI hml hl.1 (mX3_sign Λ Λn x4.2 (59 : Int32) _ _ ex18) (cwX3_sign_X1 hts ⟨Nat.le_of_ble_eq_true rfl, Nat.le_of_ble_eq_true rfl⟩) (hI.1.o 1 rfl) rfl rfl ⟨leC hu1, leC hu2⟩ rfl rfl (lv_room (Nat.le_of_ble_eq_true rfl)) dX1_goesOn_18 (fun H locs hI => ?_)
    refine lv_if_eq (tgt := 26) hx hb dX1_goesOn_21 (by decide) (fun hc => ?_) (fun hc => ?_)
    · replace hf := ipos hc hf
      refine lv_aload_n hx hb dX1_goesOn_26 rfl (lv_at hl 0 rfl) ?_
      refine gget hx hb hts in_X1 hown hE.1.1 (hI.1.o 0 rfl) rfl 4 (by decide) q469 rfl dX1_goesOn_27 ?_
      obtain ⟨ho, hK⟩ := pr_e hf
      have hK1 : T.1 = 1 := congrArg Prod.fst hK
      have hK2 : T.2 = 6 := congrArg Prod.snd hK
      have hu3 : 0 + 1 = T.1 := by omega
      have hu4 : 0 + 6 = T.2 := by omega
      refine pwrong (rest := []) hx hb hts hst hown hEP hI hml hl.1 (cwX3_wrong_X1 hts ⟨Nat.le_of_ble_eq_true rfl, Nat.le_of_ble_eq_true rfl⟩) ⟨Nat.le_of_eq hu3, Nat.le_of_eq hu4⟩ (lv_room (Nat.le_of_ble_eq_true rfl)) dX1_goesOn_30 dX1_goesOn_33 (fun E ce q9 H locs hn hI h1 h2 h3 => ?_)
      exact hxx H locs 33 ls _ _ _ E ce q9 _ hI ho hn h1 h2 h3 (Nat.le_of_eq hu3) (Nat.le_of_eq hu4)
    · replace hf := ineg hc hf
      refine lv_iconst (v := (1 : Int32)) hx hb dX1_goesOn_24 (by decide) ?_
      obtain ⟨ho, -⟩ := pr_e hf
      exact hret H locs 25 ls _ _ _ _ hI ho (by decide) (leC hu1) (leC hu2) dX1_goesOn_25
  · replace hf := ineg hc hf
    refine lv_iconst (v := (0 : Int32)) hx hb dX1_goesOn_10 (by decide) ?_
    obtain ⟨ho, -⟩ := pr_e hf
    exact hret H locs 11 ls _ _ _ _ hI ho (by decide) (leC hu1) (leC hu2) dX1_goesOn_11

theorem cwX1_noMore_X1 {R : Room} {s : State} {args : Array Value} {fr lo mc ms : Nat} (hts : ∀ w ∈ lw_all, w.before args s = true) (hR : fr + 1 ≤ R.frames ∧ 8 + (3 + 11) + lo ≤ R.locals) : CallW R s args RX1 RX1 215 yX1_noMore cX1_noMore 3 (none) (ws_ yX1_noMore cX1_noMore 3 (none)) ({ frames := fr, cells := mc, slots := ms, locals := lo }) mc ms 2 :=
  cwV 2 hts (lw_V q858 q860 qs17 q133 q861) rfl rfl rfl (by decide +kernel) hR
theorem cwX1_portLine_X1 {R : Room} {s : State} {args : Array Value} {fr lo mc ms : Nat} (hts : ∀ w ∈ lw_all, w.before args s = true) (hR : fr + 1 ≤ R.frames ∧ 8 + (6 + 11) + lo ≤ R.locals) : CallW R s args RX1 RX1 219 yX1_portLine cX1_portLine 6 (none) (ws_ yX1_portLine cX1_portLine 6 (none)) ({ frames := fr, cells := mc, slots := ms, locals := lo }) mc ms 1 :=
  cwV 1 hts (lw_V q1219 q1221 qs19 q133 q1222) rfl rfl rfl (by decide +kernel) hR
theorem cwX1_goesOn_X1 {R : Room} {s : State} {args : Array Value} {fr lo mc ms : Nat} (hts : ∀ w ∈ lw_all, w.before args s = true) (hR : fr + 1 ≤ R.frames ∧ 8 + (1 + 11) + lo ≤ R.locals) : CallW R s args RX1 RX1 222 yX1_goesOn cX1_goesOn 1 (some .boolean) (ws_ yX1_goesOn cX1_goesOn 1 (some .boolean)) ({ frames := fr, cells := mc, slots := ms, locals := lo }) mc ms 0 :=
  cwV 0 hts (lw_V q1355 q1357 qs26 q133 q1358) rfl rfl rfl (by decide +kernel) hR
def X1_portText_L13 (k1 : Nat) : Nat → Cs → Int32 → Option (Po × Kc)
  | 0, _, _ => none
  | n + 1, τ, x2 =>
    (X1_noMore τ x2 (14 : Int32)).bind fun x17 => addc x17.2 (Sum.elim (fun (v17 : Int32 × Cs) =>
      (X1_portLine v17.2 k1).bind fun x22 => addc x22.2 (Sum.elim (fun (v22 : Int32 × Cs) =>
        (some (x2 + (1 : Int32))).bind fun v25 =>
        (X1_goesOn v22.2).bind fun x29 => addc x29.2 (Sum.elim (fun (v29 : Int32 × Cs) =>
          if v29.1 = (0 : Int32) then
            some (.inl ((0 : Int32), v29.2), (0, 0))
          else
            X1_portText_L13 k1 n v29.2 v25) (fun (u : Cs) => some (.inr u, (0, 0))) x29.1)) (fun (u : Cs) => some (.inr u, (0, 0))) x22.1)) (fun (u : Cs) => some (.inr u, (0, 0))) x17.1)
def X1_portText (τ : Cs) (k1 : Nat) : Option (Po × Kc) :=
  (X3_isOver τ).bind fun x4 =>
  if x4.1 = (0 : Int32) then
    X1_portText_L13 k1 FU x4.2 (0 : Int32)
  else
    some (.inl ((0 : Int32), x4.2), (0, 0))
set_option maxHeartbeats 4000000 in
theorem mX1_portText (Λ : Nat → Nat → (Nat → Int32) → Int32) (Λn : Nat → Int32) (τ : Cs) (k1 : Nat) (hk1 : k1 < 5) (out : Po) (T : Kc) (hf : X1_portText τ k1 = some (out, T)) : PXv yX1_portText cX1_portText 3 (none) 19 1621 Λ Λn (fun o aK aF => [.ref o, .ref (wA o k1)]) out T τ := by
  refine PXv.of (by decide) (fun _ _ _ => Nat.le_of_ble_eq_true rfl) ?_
  intro p l e s m args below meth c D8 D J o z aK aV G Ld aF N9 Q ls hst hx hb hml hown hts hEP hret hxx hI hl
  have hE := hEP.1
  obtain ⟨H, eH⟩ : ∃ H, H = s.heap := ⟨_, rfl⟩
  obtain ⟨locs, eL⟩ : ∃ L : List Loc, L = [] := ⟨_, rfl⟩
  rw [← eH, ← eL] at hI ⊢
  have hown : s.vm.findClass RX1 = some m.cls := hown
  have hu1 : 0 + T.1 = T.1 := Nat.zero_add _
  have hu2 : 0 + T.2 = T.2 := Nat.zero_add _
  have hl : lv_has ls 3 [(0, .ref o), (1, .ref (wA o k1))] := hl
  unfold X1_portText at hf
  have hJ13 : ∀ (n : Nat) (τ : Cs) (x2 : Int32) (C : Kc) (H : Heap) (locs : List Loc) (ls : Array Slot), X1_portText_L13 k1 n τ x2 = some (out, C) → ∀ (cu su : Nat), cu + C.1 = T.1 → su + C.2 = T.2 → IP D J o Ld N9 s H locs τ → lv_has ls 3 [(0, .ref o), (1, .ref (wA o k1)), (2, .int x2)] → W p l e ({ frames := 19, cells := T.1, slots := T.2, locals := 1621 } : Room) s m args below meth c H locs cu su Q (F0 m 13 ls []) := by
    intro n
    induction n with
    | zero =>
      intro τ x2 C H locs ls hf cu su hu1 hu2 hI hl
      cases hf
    | succ n ih =>
      intro τ x2 C H locs ls hf cu su hu1 hu2 hI hl
      rw [X1_portText_L13] at hf
      refine lv_aload_n hx hb dX1_portText_13 rfl (lv_at hl 0 rfl) ?_
      refine lv_iload_n hx hb dX1_portText_14 rfl (lv_at hl 2 rfl) ?_
      refine lv_bipush (v := (14 : Int32)) hx hb dX1_portText_15 (by decide) ?_
      obtain ⟨x17, K17, C17, ex17, hf, eC1, eC2⟩ := pcl_e hf
      refine pcallV (rest := []) hx hb hts hst hown hEP hI hml hl.1 (mX1_noMore Λ Λn τ x2 (14 : Int32) _ _ ex17) (cwX1_noMore_X1 hts ⟨Nat.le_of_ble_eq_true rfl, Nat.le_of_ble_eq_true rfl⟩) (hI.1.o 0 rfl) rfl rfl ⟨(show cu + K17.1 ≤ T.1 by omega), (show su + K17.2 ≤ T.2 by omega)⟩ rfl rfl (lv_room (Nat.le_of_ble_eq_true rfl)) dX1_portText_17 (fun E ce q9 σ' H locs ho hn hI h1 h2 h3 => by subst ho; replace hf := selR hf; obtain ⟨ho, hK⟩ := pr_e hf; exact hxx H locs 17 ls _ _ _ E ce q9 _ hI ho hn h1 h2 h3 (show cu + K17.1 ≤ T.1 by omega) (show su + K17.2 ≤ T.2 by omega)) (fun v17 H locs ho hI => ?_)
      subst ho
      replace hf := selL hf
      obtain ⟨cu17, ecu17⟩ : ∃ n, n = cu + K17.1 := ⟨_, rfl⟩
      obtain ⟨su17, esu17⟩ : ∃ n, n = su + K17.2 := ⟨_, rfl⟩
      rw [← ecu17, ← esu17]
      replace hu1 : cu17 + C17.1 = T.1 := by omega
      replace hu2 : su17 + C17.2 = T.2 := by omega
      clear ecu17 esu17 eC1 eC2
      refine lv_aload_n hx hb dX1_portText_20 rfl (lv_at hl 0 rfl) ?_
      refine lv_aload_n hx hb dX1_portText_21 rfl (lv_at hl 1 rfl) ?_
      obtain ⟨x22, K22, C22, ex22, hf, eC1, eC2⟩ := pcl_e hf
      refine pcallV (rest := []) hx hb hts hst hown hEP hI hml hl.1 (mX1_portLine Λ Λn v17.2 k1 hk1 _ _ ex22) (cwX1_portLine_X1 hts ⟨Nat.le_of_ble_eq_true rfl, Nat.le_of_ble_eq_true rfl⟩) (hI.1.o 0 rfl) rfl rfl ⟨(show cu17 + K22.1 ≤ T.1 by omega), (show su17 + K22.2 ≤ T.2 by omega)⟩ rfl rfl (lv_room (Nat.le_of_ble_eq_true rfl)) dX1_portText_22 (fun E ce q9 σ' H locs ho hn hI h1 h2 h3 => by subst ho; replace hf := selR hf; obtain ⟨ho, hK⟩ := pr_e hf; exact hxx H locs 22 ls _ _ _ E ce q9 _ hI ho hn h1 h2 h3 (show cu17 + K22.1 ≤ T.1 by omega) (show su17 + K22.2 ≤ T.2 by omega)) (fun v22 H locs ho hI => ?_)
      subst ho
      replace hf := selL hf
      obtain ⟨cu22, ecu22⟩ : ∃ n, n = cu17 + K22.1 := ⟨_, rfl⟩
      obtain ⟨su22, esu22⟩ : ∃ n, n = su17 + K22.2 := ⟨_, rfl⟩
      rw [← ecu22, ← esu22]
      replace hu1 : cu22 + C22.1 = T.1 := by omega
      replace hu2 : su22 + C22.2 = T.2 := by omega
      clear ecu22 esu22 eC1 eC2
      obtain ⟨v25, ev25, hf⟩ := obd hf
      refine lv_iinc (v := v25) (lv' := [(2, .int v25), (0, .ref o), (1, .ref (wA o k1))]) hx hb dX1_portText_25 hl (k := 2) rfl (iiE ev25 (by decide)) (by decide) rfl (fun ls hl => ?_)
      refine lv_aload_n hx hb dX1_portText_28 rfl (lv_at hl 1 rfl) ?_
      obtain ⟨x29, K29, C29, ex29, hf, eC1, eC2⟩ := pcl_e hf
      refine pcallI (rest := []) hx hb hts hst hown hEP hI hml hl.1 (mX1_goesOn Λ Λn v22.2 _ _ ex29) (cwX1_goesOn_X1 hts ⟨Nat.le_of_ble_eq_true rfl, Nat.le_of_ble_eq_true rfl⟩) (hI.1.o 0 rfl) rfl rfl ⟨(show cu22 + K29.1 ≤ T.1 by omega), (show su22 + K29.2 ≤ T.2 by omega)⟩ rfl rfl (lv_room (Nat.le_of_ble_eq_true rfl)) dX1_portText_29 (fun E ce q9 σ' H locs ho hn hI h1 h2 h3 => by subst ho; replace hf := selR hf; obtain ⟨ho, hK⟩ := pr_e hf; exact hxx H locs 29 ls _ _ _ E ce q9 _ hI ho hn h1 h2 h3 (show cu22 + K29.1 ≤ T.1 by omega) (show su22 + K29.2 ≤ T.2 by omega)) (fun v29 H locs ho hI => ?_)
      subst ho
      replace hf := selL hf
      obtain ⟨cu29, ecu29⟩ : ∃ n, n = cu22 + K29.1 := ⟨_, rfl⟩
      obtain ⟨su29, esu29⟩ : ∃ n, n = su22 + K29.2 := ⟨_, rfl⟩
      rw [← ecu29, ← esu29]
      replace hu1 : cu29 + C29.1 = T.1 := by omega
      replace hu2 : su29 + C29.2 = T.2 := by omega
      clear ecu29 esu29 eC1 eC2
      refine lv_if_ne (tgt := 13) hx hb dX1_portText_32 (by decide) (fun hc => ?_) (fun hc => ?_)
      · replace hf := ineg hc hf
        exact ih v29.2 v25 _ H locs ls hf _ _ hu1 hu2 hI (lv_sub hl [1, 2, 0] rfl)
      · replace hf := ipos hc hf
        obtain ⟨ho, -⟩ := pr_e hf
        exact hret H locs 35 ls _ _ _ hI ho (leC hu1) (leC hu2) dX1_portText_35
  refine lv_aload_n hx hb dX1_portText_0 rfl (lv_at hl 0 rfl) ?_
  refine gget hx hb hts in_X1 hown hE.1.1 (hI.1.o 0 rfl) rfl 4 (by decide) q469 rfl dX1_portText_1 ?_
  obtain ⟨x4, ex4, hf⟩ := obd hf
  refine pccallI (rest := []) hx hb hts hown hE hI hml hl.1 (mX3_isOver Λ Λn τ _ _ ex4) (cwX3_isOver_X1 hts ⟨Nat.le_of_ble_eq_true rfl, Nat.le_of_ble_eq_true rfl⟩) (hI.1.o 1 rfl) rfl rfl ⟨leC hu1, leC hu2⟩ rfl rfl (lv_room (Nat.le_of_ble_eq_true rfl)) dX1_portText_4 (fun H locs hI => ?_)
  refine lv_if_eq (tgt := 11) hx hb dX1_portText_7 (by decide) (fun hc => ?_) (fun hc => ?_)
  · replace hf := ipos hc hf
    refine lv_iconst (v := (0 : Int32)) hx hb dX1_portText_11 (by decide) ?_
    refine lv_istore_n (lv' := [(2, .int (0 : Int32)), (0, .ref o), (1, .ref (wA o k1))]) hx hb dX1_portText_12 rfl hl (by decide) rfl (fun ls hl => ?_)
    exact hJ13 FU x4.2 (0 : Int32) _ H locs ls hf _ _ hu1 hu2 hI (lv_sub hl [1, 2, 0] rfl)
  · replace hf := ineg hc hf
    obtain ⟨ho, -⟩ := pr_e hf
    exact hret H locs 10 ls _ _ _ hI ho (leC hu1) (leC hu2) dX1_portText_10
