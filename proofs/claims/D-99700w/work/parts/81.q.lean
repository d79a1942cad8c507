set_option maxRecDepth 100000
theorem noMore_lt {τ : Cs} {a b : Int32} {v : Int32 × Cs} {K : Kc} (h : X1_noMore τ a b = some (.inl v, K)) : ¬ b ≤ a := by
  unfold X1_noMore at h
  intro c
  replace h := ipos c h
  obtain ⟨t, -, h⟩ := obd h
  obtain ⟨C, h, -⟩ := addc_e h
  cases h
theorem nI12 {n : Nat} (hn : n ≤ 12) (h : ¬ (12 : Int32) ≤ nI n) : n < 12 := by
  rcases Nat.lt_or_ge n 12 with c | c
  · exact c
  · obtain rfl : n = 12 := by omega
    exact absurd h (by decide)
set_option maxHeartbeats 4000000 in
theorem mX1_lawLine (Λ : Nat → Nat → (Nat → Int32) → Int32) (Λn : Nat → Int32) (τ : Cs) (out : FcL) (T : Kc) (hf : X1_lawLine τ = some (out, T)) : PXo yX1_lawLine cX1_lawLine 3 (some (.object "LateInks$Line")) (60) (5000) Λ Λn (fun o => [.ref o]) (fun D J G aF a (g : Nat × Int32 × FcV) H => LineAt D J G aF a g.1 g.2.1 g.2.2 H) out T τ := by
  refine PXo.of (by decide) (fun _ => Nat.le_of_ble_eq_true rfl) ?_
  intro p l e s m args below meth c D8 D J o z aK aV G Ld aF e0 mi N9 Q ls hst hx hb hml hown hts hL hret hxx hI hl
  have hEP := hL.1
  have hE := hEP.1
  obtain ⟨H, eH⟩ : ∃ H, H = s.heap := ⟨_, rfl⟩
  obtain ⟨locs, eL⟩ : ∃ L : List Loc, L = [] := ⟨_, rfl⟩
  rw [← eH, ← eL] at hI ⊢
  have hown : s.vm.findClass RX1 = some m.cls := hown
  have hu1 : 0 + T.1 = T.1 := Nat.zero_add _
  have hu2 : 0 + T.2 = T.2 := Nat.zero_add _
  have hl : lv_has ls 3 [(0, .ref o)] := hl
  unfold X1_lawLine at hf
  refine lv_aload_n hx hb dX1_lawLine_0 rfl (lv_at hl 0 rfl) ?_
  refine gget hx hb hts in_X1 hown hE.1.1 (hI.1.o 0 rfl) rfl 4 (by decide) q469 rfl dX1_lawLine_1 ?_
  obtain ⟨t1, et1, hf⟩ := obd hf
  obtain ⟨C3, hf, eC1, eC2⟩ := addc_e hf
  replace eC1 : T.1 = wC t1 + C3.1 := eC1
  replace eC2 : T.2 = wS t1 + C3.2 := eC2
  refine qpword (rest := []) hx hb hts hown hEP hI hml hl.1 et1 (cwX3_word_X1 hts ⟨(by show (14) + 1 ≤ 60; omega), (by show 8 + (3 + 11) + (1500) ≤ 5000; omega)⟩) ⟨(show 0 + wC t1 ≤ T.1 by omega), (show 0 + wS t1 ≤ T.2 by omega)⟩ (lv_room (Nat.le_of_ble_eq_true rfl)) dX1_lawLine_4 (fun st1 va1 H2 locs2 hI hk hs1 => ?_)
  replace hu1 : (0 + wC t1) + C3.1 = T.1 := by omega
  replace hu2 : (0 + wS t1) + C3.2 = T.2 := by omega
  clear eC1 eC2
  clear hk
  obtain ⟨C4, hf, eC1, eC2⟩ := addc_e hf
  replace eC1 : C3.1 = 1 + C4.1 := eC1
  replace eC2 : C3.2 = 3 + C4.2 := eC2
  refine qkind (rest := []) hx hb hts hown hL hI hml hl.1 hs1 ⟨(by show 5 ≤ 60; omega), (by show 400 ≤ 5000; omega)⟩ ⟨(show (0 + wC t1) + 1 ≤ T.1 by omega), (show (0 + wS t1) + 3 ≤ T.2 by omega)⟩ (lv_room (Nat.le_of_ble_eq_true rfl)) dX1_lawLine_7 (fun H5 locs5 hI hk => ?_)
  clear hk hs1
  replace hu1 : ((0 + wC t1) + 1) + C4.1 = T.1 := by omega
  replace hu2 : ((0 + wS t1) + 3) + C4.2 = T.2 := by omega
  clear eC1 eC2
  cases hef : efnd jsK t1 3 0 with
  | none =>
    rw [hef, oel_n] at hf
    rw [Option.map_none]
    refine lv_astore_nN (lv' := [(1, .null), (0, .ref o)]) hx hb dX1_lawLine_10 rfl hl (by decide) rfl (fun ls hl => ?_)
    refine lv_aload_nN hx hb dX1_lawLine_11 rfl (lv_at hl 0 rfl) ?_
    refine lv_ifnonnullN hx hb dX1_lawLine_12 ?_
    refine lv_aload_n hx hb dX1_lawLine_15 rfl (lv_at hl 1 rfl) ?_
    refine gget hx hb hts in_X1 hown hE.1.1 (hI.1.o 0 rfl) rfl 4 (by decide) q469 rfl dX1_lawLine_16 ?_
    obtain ⟨ho, hK⟩ := prg_e hf
    have hK1 : C4.1 = 1 := congrArg Prod.fst hK
    have hK2 : C4.2 = 6 := congrArg Prod.snd hK
    have hu3 : ((0 + wC t1) + 1) + 1 = T.1 := by omega
    have hu4 : ((0 + wS t1) + 3) + 6 = T.2 := by omega
    refine pwrong (rest := []) hx hb hts hst hown hEP hI hml hl.1 (cwX3_wrong_X1 hts ⟨(by show (4) + 1 ≤ 60; omega), (by show 8 + (1 + 11) + (300) ≤ 5000; omega)⟩) ⟨Nat.le_of_eq hu3, Nat.le_of_eq hu4⟩ (lv_room (Nat.le_of_ble_eq_true rfl)) dX1_lawLine_19 dX1_lawLine_22 (fun E ce q9 H locs hn hI h1 h2 h3 => ?_)
    exact hxx H locs 22 _ _ _ _ E ce q9 _ hI ho hn h1 h2 h3 (Nat.le_of_eq hu3) (Nat.le_of_eq hu4)
  | some i =>
    rw [hef, oel_s] at hf
    rw [Option.map_some]
    have hi3 := efnd_lt _ _ _ _ _ hef
    refine lv_astore_n (lv' := [(1, .ref (aF (7 + i))), (0, .ref o)]) hx hb dX1_lawLine_10 rfl hl (by decide) rfl (fun ls hl => ?_)
    refine lv_aload_n hx hb dX1_lawLine_11 rfl (lv_at hl 0 rfl) ?_
    refine lv_ifnonnull (tgt := 23) hx hb dX1_lawLine_12 (by decide) ?_
    refine lv_aload_n hx hb dX1_lawLine_23 rfl (lv_at hl 1 rfl) ?_
    refine gget hx hb hts in_X1 hown hE.1.1 (hI.1.o 0 rfl) rfl 4 (by decide) q469 rfl dX1_lawLine_24 ?_
    refine lv_iconst (v := (0 : Int32)) hx hb dX1_lawLine_27 (by decide) ?_
    refine lv_bipush (v := (40 : Int32)) hx hb dX1_lawLine_28 (by decide) ?_
    obtain ⟨x46, K46, C46, ex46, hf, eC1, eC2⟩ := bnd_e hf
    refine qpcallI (rest := []) hx hb hts hst hown hEP hI hml hl.1 (mX3_number Λ Λn t1 (0 : Int32) (40 : Int32) _ _ ex46) (cwV 2 hts (lw_V q1303 q1304 q1305 q136 q1306) rfl rfl rfl (by decide +kernel) ⟨(by show (9) + 1 ≤ 60; omega), (by show 8 + (3 + 11) + (344) ≤ 5000; omega)⟩) (hI.1.o 1 rfl) rfl rfl ⟨(show ((0 + wC t1) + 1) + K46.1 ≤ T.1 by omega), (show ((0 + wS t1) + 3) + K46.2 ≤ T.2 by omega)⟩ rfl rfl (lv_room (Nat.le_of_ble_eq_true rfl)) dX1_lawLine_30 (fun E ce q9 σ' H locs ho hn hI h1 h2 h3 => by subst ho; replace hf := selR hf; obtain ⟨ho, hK⟩ := prg_e hf; exact hxx H locs 30 _ _ _ _ E ce q9 _ hI ho hn h1 h2 h3 (show ((0 + wC t1) + 1) + K46.1 ≤ T.1 by omega) (show ((0 + wS t1) + 3) + K46.2 ≤ T.2 by omega)) (fun v46 H47 locs47 ho hI hk => ?_)
    subst ho
    replace hf := selL hf
    replace hu1 : (((0 + wC t1) + 1) + K46.1) + C46.1 = T.1 := by omega
    replace hu2 : (((0 + wS t1) + 3) + K46.2) + C46.2 = T.2 := by omega
    clear eC1 eC2
    clear hk
    refine lv_istore_n (lv' := [(2, .int v46.1), (1, .ref (aF (7 + i))), (0, .ref o)]) hx hb dX1_lawLine_33 rfl hl (by decide) rfl (fun ls hl => ?_)
    obtain ⟨C50, hf, eC1, eC2⟩ := addc_e hf
    replace eC1 : C46.1 = 1 + C50.1 := eC1
    replace eC2 : C46.2 = 3 + C50.2 := eC2
    have hn48N : N9 ≤ H47.size := hI.le
    refine qnew (C := RX11) (T := TX11) (N := 3) (ci := 8) (fs := [.null, .int 0, .null]) hx hb hts in_X11 tyX11 tyX11_ok hown q1436 q1437 q164 hL hI rfl (fun j hj => match j, hj with
      | 0, _ => rfl
      | 1, _ => rfl
      | 2, _ => rfl) (show (((0 + wC t1) + 1) + K46.1) + 1 ≤ T.1 by omega) (show (((0 + wS t1) + 3) + K46.2) + 3 ≤ T.2 by omega) dX1_lawLine_34 (fun H49 hI hn48 hz48 hk => ?_)
    clear hk
    replace hu1 : ((((0 + wC t1) + 1) + K46.1) + 1) + C50.1 = T.1 := by omega
    replace hu2 : ((((0 + wS t1) + 3) + K46.2) + 3) + C50.2 = T.2 := by omega
    clear eC1 eC2
    refine lv_dup hx hb dX1_lawLine_37 rfl ?_
    refine lv_aload_n hx hb dX1_lawLine_38 rfl (lv_at hl 1 rfl) ?_
    refine lv_iload_n hx hb dX1_lawLine_39 rfl (lv_at hl 0 rfl) ?_
    refine lv_aload_n hx hb dX1_lawLine_40 rfl (lv_at hl 2 rfl) ?_
    refine gget hx hb hts in_X1 hown hE.1.1 (hI.1.o 0 rfl) rfl 4 (by decide) q469 rfl dX1_lawLine_41 ?_
    refine va_ldcSw hx hb hown (hE.1.2.1.at 22 rfl) dX1_lawLine_44 ?_
    obtain ⟨x51, K51, C51, ex51, hf, eC1, eC2⟩ := bnd_e hf
    refine qpcallI (rest := [.int v46.1, .ref (aF (7 + i)), .ref H47.size, .ref H47.size]) hx hb hts hst hown hEP hI hml hl.1 (mX3_passes Λ Λn v46.2 22 (by decide) _ _ ex51) (cwV 1 hts (lw_V q1326 q1327 q1328 q136 q1329) rfl rfl rfl (by decide +kernel) ⟨(by show (15) + 1 ≤ 60; omega), (by show 8 + (2 + 11) + (1522) ≤ 5000; omega)⟩) (hI.1.o 1 rfl) rfl rfl ⟨(show ((((0 + wC t1) + 1) + K46.1) + 1) + K51.1 ≤ T.1 by omega), (show ((((0 + wS t1) + 3) + K46.2) + 3) + K51.2 ≤ T.2 by omega)⟩ rfl rfl (lv_room (Nat.le_of_ble_eq_true rfl)) dX1_lawLine_47 (fun E ce q9 σ' H locs ho hn hI h1 h2 h3 => by subst ho; replace hf := selR hf; obtain ⟨ho, hK⟩ := prg_e hf; exact hxx H locs 47 _ _ _ _ E ce q9 _ hI ho hn h1 h2 h3 (show ((((0 + wC t1) + 1) + K46.1) + 1) + K51.1 ≤ T.1 by omega) (show ((((0 + wS t1) + 3) + K46.2) + 3) + K51.2 ≤ T.2 by omega)) (fun v51 H52 locs52 ho hI hk => ?_)
    subst ho
    replace hf := selL hf
    replace hu1 : (((((0 + wC t1) + 1) + K46.1) + 1) + K51.1) + C51.1 = T.1 := by omega
    replace hu2 : (((((0 + wS t1) + 3) + K46.2) + 3) + K51.2) + C51.2 = T.2 := by omega
    clear eC1 eC2
    replace hn48 := hn48.kept (hk.2 _ hn48.lt (hI.notC hn48N))
    clear hk
    refine lv_if_eq (tgt := 60) hx hb dX1_lawLine_50 (by decide) (fun hc => ?_) (fun hc => ?_)
    · replace hf := ipos hc hf
      refine lv_null hx hb dX1_lawLine_60 ?_
      refine qinit (As := [.ref (aF (7 + i)), .int v46.1, va_rf none]) (rest := [.ref H47.size]) (fs1 := [.ref (aF (7 + i)), .int v46.1, va_rf none]) hx hb hts hown hL hI hml hl.1 (fun z hz => mX11_init l D J z aK aV (H47.size) (aF (7 + i)) v46.1 none hz) (cwI 3 hts (lw_meth q1628) rfl rfl rfl (hts _ q164) (hts _ q1626) (hts _ q1627) rfl (by decide +kernel) ⟨(by show (1) + 1 ≤ 60; omega), (by show 8 + (4 + 11) + (40) ≤ 5000; omega)⟩) hn48N hn48 ⟨leC hu1, leC hu2⟩ rfl rfl (lv_room (Nat.le_of_ble_eq_true rfl)) dX1_lawLine_61 (fun H53 locs53 hI hn48 hz9 hk => ?_)
      clear hk hz9
      obtain ⟨ho, -⟩ := prg_e hf
      exact hret H53 _ 64 _ _ _ _ _ _ hI (⟨hn48N, by show i < 3; omega, Or.inl ⟨hn48, rfl⟩⟩) ho (leC hu1) (leC hu2) dX1_lawLine_64
    · replace hf := ineg hc hf
      refine lv_aload_n hx hb dX1_lawLine_53 rfl (lv_at hl 2 rfl) ?_
      obtain ⟨x93, K93, C93, ex93, hf, eC1, eC2⟩ := bnd_e hf
      have hle9 : N9 ≤ H52.size := hI.le
      have hnl48 : _ < H52.size := hn48.lt
      refine pcallO (rest := [.int v46.1, .ref (aF (7 + i)), .ref H47.size, .ref H47.size]) hx hb hts hst hown hL hI hml hl.1 (mX1_condK Λ Λn 7 v51.2 _ _ ex93) (cwV 0 hts (lw_V q1439 q1441 qs30 q133 q1442) rfl rfl rfl (by decide +kernel) ⟨(by show (4 * 7 + 26) + 1 ≤ 60; omega), (by show 8 + (2 + 11) + (300 * 7 + 2400) ≤ 5000; omega)⟩) (hI.1.o 0 rfl) rfl rfl ⟨(show (((((0 + wC t1) + 1) + K46.1) + 1) + K51.1) + K93.1 ≤ T.1 by omega), (show (((((0 + wS t1) + 3) + K46.2) + 3) + K51.2) + K93.2 ≤ T.2 by omega)⟩ rfl rfl (lv_room (Nat.le_of_ble_eq_true rfl)) dX1_lawLine_54 (fun E ce q9 σ' H locs ho hn hI h1 h2 h3 => by subst ho; replace hf := selR hf; obtain ⟨ho, hK⟩ := prg_e hf; exact hxx H locs 54 _ _ _ _ E ce q9 _ hI ho hn h1 h2 h3 (show (((((0 + wC t1) + 1) + K46.1) + 1) + K51.1) + K93.1 ≤ T.1 by omega) (show (((((0 + wS t1) + 3) + K46.2) + 3) + K51.2) + K93.2 ≤ T.2 by omega)) (fun a93 v93 H94 locs94 ho hI hG93 hz hk => ?_)
      subst ho
      replace hf := selL hf
      replace hk : Kp o H52 H94 := ⟨hz, hk⟩
      clear hz
      replace hu1 : ((((((0 + wC t1) + 1) + K46.1) + 1) + K51.1) + K93.1) + C93.1 = T.1 := by omega
      replace hu2 : ((((((0 + wS t1) + 3) + K46.2) + 3) + K51.2) + K93.2) + C93.2 = T.2 := by omega
      clear eC1 eC2
      replace hn48 := hn48.kept (hk.2 _ hn48.lt (hI.notC hn48N))
      clear hk
      have hlt9 : H47.size < H52.size := hnl48
      replace hG93 := CondAt.mv (G' := fun q => N9 ≤ q ∧ q ≠ H47.size) (fun q h1 h2 => ⟨⟨Nat.le_trans hle9 h2, by have h2 : H52.size ≤ q := h2; omega⟩, rfl⟩) _ _ _ hG93
      clear hle9 hlt9
      refine lv_goto (tgt := 61) hx hb dX1_lawLine_57 (by decide) ?_
      refine qinit (As := [.ref (aF (7 + i)), .int v46.1, va_rf (some a93)]) (rest := [.ref H47.size]) (fs1 := [.ref (aF (7 + i)), .int v46.1, va_rf (some a93)]) hx hb hts hown hL hI hml hl.1 (fun z hz => mX11_init l D J z aK aV (H47.size) (aF (7 + i)) v46.1 (some a93) hz) (cwI 3 hts (lw_meth q1628) rfl rfl rfl (hts _ q164) (hts _ q1626) (hts _ q1627) rfl (by decide +kernel) ⟨(by show (1) + 1 ≤ 60; omega), (by show 8 + (4 + 11) + (40) ≤ 5000; omega)⟩) hn48N hn48 ⟨leC hu1, leC hu2⟩ rfl rfl (lv_room (Nat.le_of_ble_eq_true rfl)) dX1_lawLine_61 (fun H95 locs95 hI hn48 hz9 hk => ?_)
      replace hG93 := CondAt.mv (G' := fun q => N9 ≤ q) (fun q h1 h2 => ⟨h2.1, hk q h1 h2.2⟩) _ _ _ hG93
      clear hk hz9
      obtain ⟨ho, -⟩ := prg_e hf
      exact hret H95 _ 64 _ _ _ _ _ _ hI (⟨hn48N, by show i < 3; omega, Or.inr ⟨a93, 2 * 7 + 3, by decide, hn48, hG93⟩⟩) ho (leC hu1) (leC hu2) dX1_lawLine_64
set_option maxHeartbeats 4000000 in
theorem mX1_lawText (Λ : Nat → Nat → (Nat → Int32) → Int32) (Λn : Nat → Int32) (τ : Cs) (out : FcW) (T : Kc) (hf : X1_lawText τ = some (out, T)) : PXo yX1_lawText cX1_lawText 2 (some (.object "LateInks$Law")) (62) (5100) Λ Λn (fun o => [.ref o]) (fun D J G aF a (g : (Nat → FcV) × Int32) H => LawAt D J G aF a g.1 g.2 H) out T τ := by
  refine PXo.of (by decide) (fun _ => Nat.le_of_ble_eq_true rfl) ?_
  intro p l e s m args below meth c D8 D J o z aK aV G Ld aF e0 mi N9 Q ls hst hx hb hml hown hts hL hret hxx hI hl
  have hEP := hL.1
  have hE := hEP.1
  obtain ⟨H, eH⟩ : ∃ H, H = s.heap := ⟨_, rfl⟩
  obtain ⟨locs, eL⟩ : ∃ L : List Loc, L = [] := ⟨_, rfl⟩
  rw [← eH, ← eL] at hI ⊢
  have hown : s.vm.findClass RX1 = some m.cls := hown
  have hu1 : 0 + T.1 = T.1 := Nat.zero_add _
  have hu2 : 0 + T.2 = T.2 := Nat.zero_add _
  have hl : lv_has ls 2 [(0, .ref o)] := hl
  unfold X1_lawText at hf
  obtain ⟨C3, hf, eC1, eC2⟩ := addc_e hf
  replace eC1 : T.1 = 1 + C3.1 := eC1
  replace eC2 : T.2 = 1 + C3.2 := eC2
  have hn1N : N9 ≤ H.size := hI.le
  refine qnew (C := RX9) (T := TX9) (N := 1) (ci := 7) (fs := [.null]) hx hb hts in_X9 tyX9 tyX9_ok hown q1404 q1405 q161 hL hI rfl (fun j hj => match j, hj with
    | 0, _ => rfl) (show 0 + 1 ≤ T.1 by omega) (show 0 + 1 ≤ T.2 by omega) dX1_lawText_0 (fun H2 hI hn1 hz1 hk => ?_)
  clear hk
  replace hu1 : (0 + 1) + C3.1 = T.1 := by omega
  replace hu2 : (0 + 1) + C3.2 = T.2 := by omega
  clear eC1 eC2
  refine lv_dup hx hb dX1_lawText_3 rfl ?_
  obtain ⟨C5, hf, eC1, eC2⟩ := addc_e hf
  replace eC1 : C3.1 = 1 + C5.1 := eC1
  replace eC2 : C3.2 = 3 + C5.2 := eC2
  refine qinitLN (As := []) (rest := [.ref H.size]) (fs1 := [.ref (H2.size)]) (E := (fun i G a H => LineAt D J G aF a ((fun _ => (0, 0, fun _ => 0) : Nat → Nat × Int32 × FcV) i).1 ((fun _ => (0, 0, fun _ => 0) : Nat → Nat × Int32 × FcV) i).2.1 ((fun _ => (0, 0, fun _ => 0) : Nat → Nat × Int32 × FcV) i).2.2 H)) hx hb hts hown hL hI hml hl.1 (fun z hz => mX9_init l D J z aK aV e0 (H.size) _ hz (by omega)) ⟨va_cnB 0 hts (lw_meth q1408) rfl rfl rfl (hE.1.2.2.m 6 rfl) (hts _ q161) (by decide +kernel) ⟨(by show (4) + 1 ≤ 62; omega), (by show 8 + (1 + 11) + (150) ≤ 5100; omega)⟩, rfl, hts _ q1407⟩ hn1N (by omega) hn1 ⟨(show (0 + 1) + 1 ≤ T.1 by omega), (show (0 + 1) + 3 ≤ T.2 by omega)⟩ rfl rfl (lv_room (Nat.le_of_ble_eq_true rfl)) dX1_lawText_4 (fun H4 locs4 els hI hg => ?_)
  replace hu1 : ((0 + 1) + 1) + C5.1 = T.1 := by omega
  replace hu2 : ((0 + 1) + 3) + C5.2 = T.2 := by omega
  clear eC1 eC2
  refine lv_astore_n (lv' := [(1, .ref H.size), (0, .ref o)]) hx hb dX1_lawText_7 rfl hl (by decide) rfl (fun ls hl => ?_)
  generalize H.size = a9 at hg hl
  generalize H2.size = lst9 at hg
  refine lv_aload_n hx hb dX1_lawText_8 rfl (lv_at hl 1 rfl) ?_
  refine gget hx hb hts in_X1 hown hE.1.1 (hI.1.o 0 rfl) rfl 4 (by decide) q469 rfl dX1_lawText_9 ?_
  obtain ⟨x6, ex6, hf⟩ := obd hf
  refine qccallI (rest := []) hx hb hts hown hE hI hml hl.1 (mX3_isOver Λ Λn τ _ _ ex6) (cwV 0 hts (lw_V q846 q847 q848 q136 q849) rfl rfl rfl (by decide +kernel) ⟨(by show (3) + 1 ≤ 62; omega), (by show 8 + (1 + 11) + (81) ≤ 5100; omega)⟩) (hI.1.o 1 rfl) rfl rfl ⟨leC hu1, leC hu2⟩ rfl rfl (lv_room (Nat.le_of_ble_eq_true rfl)) dX1_lawText_12 (fun H7 locs7 hI hk => ?_)
  replace hg := hg.kept (ElOK.line _) hI.2.2.2 hL.e0A.1 hk
  clear hk
  refine lv_if_eq (tgt := 20) hx hb dX1_lawText_15 (by decide) (fun hc => ?_) (fun hc => ?_)
  · replace hf := ipos hc hf
    have loop : ∀ (k : Nat) (τ : Cs) (n cap : Nat) (gs : Nat → Nat × Int32 × FcV) (C : Kc) (H : Heap) (locs : List Loc) (ls : Array Slot) (els : Nat → Nat) (M : Nat) (hn12 : n ≤ 12), X1_lawL k τ n cap gs = some (out, C) → ∀ (cu su : Nat), cu + C.1 = T.1 → su + C.2 = T.2 → IP D J o Ld N9 s H locs τ → GL D J N9 M e0 (fun i G a H => LineAt D J G aF a (gs i).1 (gs i).2.1 (gs i).2.2 H) (a9, .inr (7, [.ref lst9])) lst9 n cap els H → lv_has ls 2 [(1, .ref a9), (0, .ref o)] → W p l e ({ frames := 62, cells := T.1, slots := T.2, locals := 5100 } : Room) s m args below meth c H locs cu su Q (F0 m 20 ls []) := by
      intro k
      induction k with
      | zero =>
        intro τ n cap gs C H locs ls els M hn12 hf
        cases hf
      | succ k ih =>
        intro τ n cap gs C H locs ls els M hn12 hf cu su hu1 hu2 hI hg hl
        unfold X1_lawL at hf
        replace hg := hg.bump
        refine lv_aload_n hx hb dX1_lawText_20 rfl (lv_at hl 1 rfl) ?_
        refine lv_aload_n hx hb dX1_lawText_21 rfl (lv_at hl 0 rfl) ?_
        refine ggetN hx hb hts in_X9 hown hE.1.1 hg.own9.2 rfl 0 (by decide) (hE.1.2.2.f 57 rfl) rfl dX1_lawText_22 ?_
        obtain ⟨-, vv9, ww9, hsz⟩ := hg.lstA
        refine rcallI (rest := [.ref o]) hx hb hts hown hml hl.1 (mJ3_size D J z aK aV lst9 vv9 ww9 (nI n)) (cwJ3_size_X1 hts ⟨(by show (1) + 1 ≤ 62; omega), (by show 8 + (1 + 11) + (40) ≤ 5100; omega)⟩) EC.keep.and (g_recv hE.1.1 hsz rfl) (fun U hU hW => ⟨(hI.envL hL hU hW).1.1.1, by rw [hU]; exact hsz⟩) ⟨leC hu1, leC hu2⟩ rfl rfl (lv_room (Nat.le_of_ble_eq_true rfl)) dX1_lawText_25 ?_
        clear hsz vv9 ww9
        refine lv_bipush (v := (12 : Int32)) hx hb dX1_lawText_28 (by decide) ?_
        obtain ⟨x108, K108, C108, ex108, hf, eC1, eC2⟩ := bnd_e hf
        refine qpcallV (rest := []) hx hb hts hst hown hEP hI hml hl.1 (mX1_noMore Λ Λn τ (nI n) (12 : Int32) _ _ ex108) (cwV 2 hts (lw_V q858 q860 qs17 q133 q861) rfl rfl rfl (by decide +kernel) ⟨(by show (15) + 1 ≤ 62; omega), (by show 8 + (3 + 11) + (1522) ≤ 5100; omega)⟩) (hI.1.o 0 rfl) rfl rfl ⟨(show cu + K108.1 ≤ T.1 by omega), (show su + K108.2 ≤ T.2 by omega)⟩ rfl rfl (lv_room (Nat.le_of_ble_eq_true rfl)) dX1_lawText_30 (fun E ce q9 σ' H locs ho hn hI h1 h2 h3 => by subst ho; replace hf := selR hf; obtain ⟨ho, hK⟩ := prg_e hf; exact hxx H locs 30 _ _ _ _ E ce q9 _ hI ho hn h1 h2 h3 (show cu + K108.1 ≤ T.1 by omega) (show su + K108.2 ≤ T.2 by omega)) (fun v108 H109 locs109 ho hI hk => ?_)
        subst ho
        replace hf := selL hf
        replace hu1 : (cu + K108.1) + C108.1 = T.1 := by omega
        replace hu2 : (su + K108.2) + C108.2 = T.2 := by omega
        clear eC1 eC2
        replace hg := hg.kept (ElOK.line gs) hI.2.2.2 hL.e0A.1 hk
        clear hk
        have hlt12 := nI12 hn12 (noMore_lt ex108)
        refine lv_aload_n hx hb dX1_lawText_33 rfl (lv_at hl 0 rfl) ?_
        refine ggetN hx hb hts in_X9 hown hE.1.1 hg.own9.2 rfl 0 (by decide) (hE.1.2.2.f 57 rfl) rfl dX1_lawText_34 ?_
        refine lv_aload_n hx hb dX1_lawText_37 rfl (lv_at hl 1 rfl) ?_
        replace hg := hg.bump
        obtain ⟨x110, K110, C110, ex110, hf, eC1, eC2⟩ := bnd_e hf
        have hle9 : N9 ≤ H109.size := hI.le
        refine pcallO (rest := [.ref lst9]) hx hb hts hst hown hL hI hml hl.1 (mX1_lawLine Λ Λn v108.2 _ _ ex110) (cwV 0 hts (lw_V q1417 q1419 qs29 q133 q1420) rfl rfl rfl (by decide +kernel) ⟨(by show (60) + 1 ≤ 62; omega), (by show 8 + (3 + 11) + (5000) ≤ 5100; omega)⟩) (hI.1.o 0 rfl) rfl rfl ⟨(show (cu + K108.1) + K110.1 ≤ T.1 by omega), (show (su + K108.2) + K110.2 ≤ T.2 by omega)⟩ rfl rfl (lv_room (Nat.le_of_ble_eq_true rfl)) dX1_lawText_38 (fun E ce q9 σ' H locs ho hn hI h1 h2 h3 => by subst ho; replace hf := selR hf; obtain ⟨ho, hK⟩ := prg_e hf; exact hxx H locs 38 _ _ _ _ E ce q9 _ hI ho hn h1 h2 h3 (show (cu + K108.1) + K110.1 ≤ T.1 by omega) (show (su + K108.2) + K110.2 ≤ T.2 by omega)) (fun a110 v110 H111 locs111 ho hI hG110 hz hk => ?_)
        subst ho
        replace hf := selL hf
        replace hk : Kp o H109 H111 := ⟨hz, hk⟩
        clear hz
        replace hu1 : ((cu + K108.1) + K110.1) + C110.1 = T.1 := by omega
        replace hu2 : ((su + K108.2) + K110.2) + C110.2 = T.2 := by omega
        clear eC1 eC2
        replace hg := hg.kept (ElOK.line gs) hI.2.2.2 hL.e0A.1 hk
        clear hk
        by_cases hcap9 : cap < 2 ^ 18
        · replace hf := ipos hcap9 hf
          obtain ⟨C112, hf, eC1, eC2⟩ := addc_e hf
          replace eC1 : C110.1 = acC n cap + C112.1 := eC1
          replace eC2 : C110.2 = acS n cap + C112.2 := eC2
          refine qadd (rest := []) (E := (fun i G a H => LineAt D J G aF a (gs i).1 (gs i).2.1 (gs i).2.2 H)) (E' := (fun i G a H => LineAt D J G aF a ((lup gs n v110.1) i).1 ((lup gs n v110.1) i).2.1 ((lup gs n v110.1) i).2.2 H)) hx hb hts hown hL hI hml hl.1 (ElOK.line gs) hg (v := a110) (by show LineAt D J _ aF a110 (lup gs n v110.1 n).1 (lup gs n v110.1 n).2.1 (lup gs n v110.1 n).2.2 _; rw [lup_eq]; exact hG110) (ElOK.line _) hcap9 (fun i hi G a H h => by show LineAt D J G aF a (lup gs n v110.1 i).1 (lup gs n v110.1 i).2.1 (lup gs n v110.1 i).2.2 H; rw [lup_lt hi]; exact h) (cwV 1 hts (lw_V q1551 q1552 q1553 q141 q1554) rfl rfl rfl (by decide +kernel) ⟨(by show (7) + 1 ≤ 62; omega), (by show 8 + (2 + 11) + (600) ≤ 5100; omega)⟩) ⟨(show ((cu + K108.1) + K110.1) + acC n cap ≤ T.1 by omega), (show ((su + K108.2) + K110.2) + acS n cap ≤ T.2 by omega)⟩ (lv_room (Nat.le_of_ble_eq_true rfl)) dX1_lawText_41 (fun H113 locs113 hI hg => ?_)
          replace hu1 : (((cu + K108.1) + K110.1) + acC n cap) + C112.1 = T.1 := by omega
          replace hu2 : (((su + K108.2) + K110.2) + acS n cap) + C112.2 = T.2 := by omega
          clear eC1 eC2
          refine lv_pop hx hb dX1_lawText_44 rfl ?_
          refine lv_aload_n hx hb dX1_lawText_45 rfl (lv_at hl 1 rfl) ?_
          obtain ⟨x114, K114, C114, ex114, hf, eC1, eC2⟩ := bnd_e hf
          refine qpcallI (rest := []) hx hb hts hst hown hEP hI hml hl.1 (mX1_goesOn Λ Λn v110.2 _ _ ex114) (cwV 0 hts (lw_V q1355 q1357 qs26 q133 q1358) rfl rfl rfl (by decide +kernel) ⟨(by show (8) + 1 ≤ 62; omega), (by show 8 + (1 + 11) + (320) ≤ 5100; omega)⟩) (hI.1.o 0 rfl) rfl rfl ⟨(show (((cu + K108.1) + K110.1) + acC n cap) + K114.1 ≤ T.1 by omega), (show (((su + K108.2) + K110.2) + acS n cap) + K114.2 ≤ T.2 by omega)⟩ rfl rfl (lv_room (Nat.le_of_ble_eq_true rfl)) dX1_lawText_46 (fun E ce q9 σ' H locs ho hn hI h1 h2 h3 => by subst ho; replace hf := selR hf; obtain ⟨ho, hK⟩ := prg_e hf; exact hxx H locs 46 _ _ _ _ E ce q9 _ hI ho hn h1 h2 h3 (show (((cu + K108.1) + K110.1) + acC n cap) + K114.1 ≤ T.1 by omega) (show (((su + K108.2) + K110.2) + acS n cap) + K114.2 ≤ T.2 by omega)) (fun v114 H115 locs115 ho hI hk => ?_)
          subst ho
          replace hf := selL hf
          replace hu1 : ((((cu + K108.1) + K110.1) + acC n cap) + K114.1) + C114.1 = T.1 := by omega
          replace hu2 : ((((su + K108.2) + K110.2) + acS n cap) + K114.2) + C114.2 = T.2 := by omega
          clear eC1 eC2
          replace hg := hg.kept (ElOK.line _) hI.2.2.2 hL.e0A.1 hk
          clear hk
          refine lv_if_ne (tgt := 20) hx hb dX1_lawText_49 (by decide) (fun hc => ?_) (fun hc => ?_)
          · replace hf := ineg hc hf
            exact ih v114.2 (n + 1) (ncap n cap) (lup gs n v110.1) _ _ _ _ _ _ (by omega) hf _ _ hu1 hu2 hI hg (lv_sub hl [0, 1] rfl)
          · replace hf := ipos hc hf
            refine lv_aload_n hx hb dX1_lawText_52 rfl (lv_at hl 0 rfl) ?_
            obtain ⟨ho, -⟩ := prg_e hf
            exact hret H115 _ 53 _ _ _ _ _ _ hI (⟨hg.own9.1, lst9, n + 1, _, fun i => (lup gs n v110.1 i).1, fun i => (lup gs n v110.1 i).2.1, fun i => (lup gs n v110.1 i).2.2, hg.own9.2, hg.lstA.1, fun h => absurd h (Nat.succ_ne_zero n), fun h => hg.done h, hg.elsA (ElOK.line _), by omega, rfl, rfl⟩) ho (leC hu1) (leC hu2) dX1_lawText_53
        · replace hf := ineg hcap9 hf
          cases hf
    exact loop FU x6.2 0 0 _ _ _ _ _ els _ (by decide) hf _ _ hu1 hu2 hI hg (lv_sub hl [0, 1] rfl)
  · replace hf := ineg hc hf
    refine lv_aload_n hx hb dX1_lawText_18 rfl (lv_at hl 0 rfl) ?_
    obtain ⟨ho, -⟩ := prg_e hf
    exact hret H7 _ 19 _ _ _ _ _ _ hI (⟨hg.own9.1, lst9, 0, els, fun _ => 0, fun _ => 0, fun _ _ => 0, hg.own9.2, hg.lstA.1, fun _ => hg.lstA.2, fun h => absurd h (by decide), fun i hi => absurd hi (Nat.not_lt_zero i), by decide, rfl, rfl⟩) ho (leC hu1) (leC hu2) dX1_lawText_19
