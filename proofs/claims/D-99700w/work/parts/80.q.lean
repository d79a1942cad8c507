set_option maxRecDepth 100000
set_option maxHeartbeats 4000000 in
theorem mX1_atom (Λ : Nat → Nat → (Nat → Int32) → Int32) (Λn : Nat → Int32) (k : Nat) (τ : Cs) (out : FcP) (T : Kc) (hf : X1_atom k τ = some (out, T)) : PXo yX1_atom cX1_atom 3 (some (.object "LateInks$Cond")) (4 * k + 24) (300 * k + 2200) Λ Λn (fun o => [.ref o]) (fun D J G aF a (g : FcV) H => CondAt D J G aF (2 * k + 1) a g H) out T τ := by
  induction k generalizing τ out T with
  | zero => cases hf
  | succ k ih =>
  unfold X1_atom at hf
  refine PXo.of (by decide) (fun _ => Nat.le_of_ble_eq_true rfl) ?_
  intro p l e s m args below meth c D8 D J o z aK aV G Ld aF e0 mi N9 Q ls hst hx hb hml hown hts hL hret hxx hI hl
  have hEP := hL.1
  have hE := hEP.1
  obtain ⟨H, eH⟩ : ∃ H, H = s.heap := ⟨_, rfl⟩
  obtain ⟨locs, eL⟩ : ∃ L : List Loc, L = [] := ⟨_, rfl⟩
  rw [← eH, ← eL] at hI ⊢
  have hown : s.vm.findClass RX1 = some m.cls := hown
  have hu1 : 0 + T.1 = T.1 := Nat.zero_add _
  have hu2 : 0 + T.2 = T.2 := Nat.zero_add _
  have hl : lv_has ls 3 [(0, .ref o)] := hl
  refine lv_aload_n hx hb dX1_atom_0 rfl (lv_at hl 0 rfl) ?_
  refine gget hx hb hts in_X1 hown hE.1.1 (hI.1.o 0 rfl) rfl 4 (by decide) q469 rfl dX1_atom_1 ?_
  refine lv_astore_n (lv' := [(1, .ref (o + 61)), (0, .ref o)]) hx hb dX1_atom_4 rfl hl (by decide) rfl (fun ls hl => ?_)
  refine lv_aload_n hx hb dX1_atom_5 rfl (lv_at hl 0 rfl) ?_
  refine lv_bipush (v := (40 : Int32)) hx hb dX1_atom_6 (by decide) ?_
  obtain ⟨x1, ex1, hf⟩ := obd hf
  refine qccallI (rest := []) hx hb hts hown hE hI hml hl.1 (mX3_sign Λ Λn τ (40 : Int32) _ _ ex1) (cwV 1 hts (lw_V q1359 q1360 q1361 q136 q1362) rfl rfl rfl (by decide +kernel) ⟨(by show (3) + 1 ≤ 4 * (k + 1) + 24; omega), (by show 8 + (2 + 11) + (81) ≤ 300 * (k + 1) + 2200; omega)⟩) (hI.1.o 1 rfl) rfl rfl ⟨leC hu1, leC hu2⟩ rfl rfl (lv_room (Nat.le_of_ble_eq_true rfl)) dX1_atom_8 (fun H2 locs2 hI hk => ?_)
  clear hk
  refine lv_if_eq (tgt := 43) hx hb dX1_atom_11 (by decide) (fun hc => ?_) (fun hc => ?_)
  · replace hf := ipos hc hf
    refine lv_aload_n hx hb dX1_atom_43 rfl (lv_at hl 0 rfl) ?_
    refine va_ldcSw hx hb hown (hE.1.2.1.at 23 rfl) dX1_atom_44 ?_
    obtain ⟨x3, K3, C3, ex3, hf, eC1, eC2⟩ := bnd_e hf
    refine qpcallI (rest := []) hx hb hts hst hown hEP hI hml hl.1 (mX3_passes Λ Λn x1.2 23 (by decide) _ _ ex3) (cwV 1 hts (lw_V q1326 q1327 q1328 q136 q1329) rfl rfl rfl (by decide +kernel) ⟨(by show (15) + 1 ≤ 4 * (k + 1) + 24; omega), (by show 8 + (2 + 11) + (1522) ≤ 300 * (k + 1) + 2200; omega)⟩) (hI.1.o 1 rfl) rfl rfl ⟨(show 0 + K3.1 ≤ T.1 by omega), (show 0 + K3.2 ≤ T.2 by omega)⟩ rfl rfl (lv_room (Nat.le_of_ble_eq_true rfl)) dX1_atom_47 (fun E ce q9 σ' H locs ho hn hI h1 h2 h3 => by subst ho; replace hf := selR hf; obtain ⟨ho, hK⟩ := prg_e hf; exact hxx H locs 47 _ _ _ _ E ce q9 _ hI ho hn h1 h2 h3 (show 0 + K3.1 ≤ T.1 by omega) (show 0 + K3.2 ≤ T.2 by omega)) (fun v3 H4 locs4 ho hI hk => ?_)
    subst ho
    replace hf := selL hf
    replace hu1 : (0 + K3.1) + C3.1 = T.1 := by omega
    replace hu2 : (0 + K3.2) + C3.2 = T.2 := by omega
    clear eC1 eC2
    clear hk
    refine lv_if_eq (tgt := 75) hx hb dX1_atom_50 (by decide) (fun hc => ?_) (fun hc => ?_)
    · replace hf := ipos hc hf
      refine lv_aload_n hx hb dX1_atom_75 rfl (lv_at hl 0 rfl) ?_
      refine va_ldcSw hx hb hown (hE.1.2.1.at 24 rfl) dX1_atom_76 ?_
      obtain ⟨x5, K5, C5, ex5, hf, eC1, eC2⟩ := bnd_e hf
      refine qpcallI (rest := []) hx hb hts hst hown hEP hI hml hl.1 (mX3_passes Λ Λn v3.2 24 (by decide) _ _ ex5) (cwV 1 hts (lw_V q1326 q1327 q1328 q136 q1329) rfl rfl rfl (by decide +kernel) ⟨(by show (15) + 1 ≤ 4 * (k + 1) + 24; omega), (by show 8 + (2 + 11) + (1522) ≤ 300 * (k + 1) + 2200; omega)⟩) (hI.1.o 1 rfl) rfl rfl ⟨(show (0 + K3.1) + K5.1 ≤ T.1 by omega), (show (0 + K3.2) + K5.2 ≤ T.2 by omega)⟩ rfl rfl (lv_room (Nat.le_of_ble_eq_true rfl)) dX1_atom_79 (fun E ce q9 σ' H locs ho hn hI h1 h2 h3 => by subst ho; replace hf := selR hf; obtain ⟨ho, hK⟩ := prg_e hf; exact hxx H locs 79 _ _ _ _ E ce q9 _ hI ho hn h1 h2 h3 (show (0 + K3.1) + K5.1 ≤ T.1 by omega) (show (0 + K3.2) + K5.2 ≤ T.2 by omega)) (fun v5 H6 locs6 ho hI hk => ?_)
      subst ho
      replace hf := selL hf
      replace hu1 : ((0 + K3.1) + K5.1) + C5.1 = T.1 := by omega
      replace hu2 : ((0 + K3.2) + K5.2) + C5.2 = T.2 := by omega
      clear eC1 eC2
      clear hk
      refine lv_if_eq (tgt := 94) hx hb dX1_atom_82 (by decide) (fun hc => ?_) (fun hc => ?_)
      · replace hf := ipos hc hf
        refine lv_aload_n hx hb dX1_atom_94 rfl (lv_at hl 0 rfl) ?_
        refine va_ldcSw hx hb hown (hE.1.2.1.at 25 rfl) dX1_atom_95 ?_
        obtain ⟨x7, K7, C7, ex7, hf, eC1, eC2⟩ := bnd_e hf
        refine qpcallI (rest := []) hx hb hts hst hown hEP hI hml hl.1 (mX3_passes Λ Λn v5.2 25 (by decide) _ _ ex7) (cwV 1 hts (lw_V q1326 q1327 q1328 q136 q1329) rfl rfl rfl (by decide +kernel) ⟨(by show (15) + 1 ≤ 4 * (k + 1) + 24; omega), (by show 8 + (2 + 11) + (1522) ≤ 300 * (k + 1) + 2200; omega)⟩) (hI.1.o 1 rfl) rfl rfl ⟨(show ((0 + K3.1) + K5.1) + K7.1 ≤ T.1 by omega), (show ((0 + K3.2) + K5.2) + K7.2 ≤ T.2 by omega)⟩ rfl rfl (lv_room (Nat.le_of_ble_eq_true rfl)) dX1_atom_98 (fun E ce q9 σ' H locs ho hn hI h1 h2 h3 => by subst ho; replace hf := selR hf; obtain ⟨ho, hK⟩ := prg_e hf; exact hxx H locs 98 _ _ _ _ E ce q9 _ hI ho hn h1 h2 h3 (show ((0 + K3.1) + K5.1) + K7.1 ≤ T.1 by omega) (show ((0 + K3.2) + K5.2) + K7.2 ≤ T.2 by omega)) (fun v7 H8 locs8 ho hI hk => ?_)
        subst ho
        replace hf := selL hf
        replace hu1 : (((0 + K3.1) + K5.1) + K7.1) + C7.1 = T.1 := by omega
        replace hu2 : (((0 + K3.2) + K5.2) + K7.2) + C7.2 = T.2 := by omega
        clear eC1 eC2
        clear hk
        refine lv_if_eq (tgt := 113) hx hb dX1_atom_101 (by decide) (fun hc => ?_) (fun hc => ?_)
        · replace hf := ipos hc hf
          refine lv_aload_n hx hb dX1_atom_113 rfl (lv_at hl 1 rfl) ?_
          obtain ⟨x9, K9, C9, ex9, hf, eC1, eC2⟩ := bnd_e hf
          have hle9 : N9 ≤ H8.size := hI.le
          refine pcallO (rest := []) hx hb hts hst hown hL hI hml hl.1 (mX1_sum Λ Λn v7.2 _ _ ex9) (cwV 0 hts (lw_V q1498 q1500 qs33 q133 q1501) rfl rfl rfl (by decide +kernel) ⟨(by show (18) + 1 ≤ 4 * (k + 1) + 24; omega), (by show 8 + (2 + 11) + (1800) ≤ 300 * (k + 1) + 2200; omega)⟩) (hI.1.o 0 rfl) rfl rfl ⟨(show (((0 + K3.1) + K5.1) + K7.1) + K9.1 ≤ T.1 by omega), (show (((0 + K3.2) + K5.2) + K7.2) + K9.2 ≤ T.2 by omega)⟩ rfl rfl (lv_room (Nat.le_of_ble_eq_true rfl)) dX1_atom_114 (fun E ce q9 σ' H locs ho hn hI h1 h2 h3 => by subst ho; replace hf := selR hf; obtain ⟨ho, hK⟩ := prg_e hf; exact hxx H locs 114 _ _ _ _ E ce q9 _ hI ho hn h1 h2 h3 (show (((0 + K3.1) + K5.1) + K7.1) + K9.1 ≤ T.1 by omega) (show (((0 + K3.2) + K5.2) + K7.2) + K9.2 ≤ T.2 by omega)) (fun a9 v9 H10 locs10 ho hI hG9 hz hk => ?_)
          subst ho
          replace hf := selL hf
          replace hk : Kp o H8 H10 := ⟨hz, hk⟩
          clear hz
          replace hu1 : ((((0 + K3.1) + K5.1) + K7.1) + K9.1) + C9.1 = T.1 := by omega
          replace hu2 : ((((0 + K3.2) + K5.2) + K7.2) + K9.2) + C9.2 = T.2 := by omega
          clear eC1 eC2
          clear hk
          replace hG9 := hG9.mv (G' := fun q => N9 ≤ q) (fun q h1 h2 => ⟨Nat.le_trans hle9 h2, rfl⟩)
          clear hle9
          refine lv_astore_n (lv' := [(2, .ref a9), (1, .ref (o + 61)), (0, .ref o)]) hx hb dX1_atom_117 rfl hl (by decide) rfl (fun ls hl => ?_)
          refine lv_aload_n hx hb dX1_atom_118 rfl (lv_at hl 1 rfl) ?_
          refine lv_bipush (v := (60 : Int32)) hx hb dX1_atom_119 (by decide) ?_
          obtain ⟨x11, ex11, hf⟩ := obd hf
          refine qccallI (rest := []) hx hb hts hown hE hI hml hl.1 (mX3_sign Λ Λn v9.2 (60 : Int32) _ _ ex11) (cwV 1 hts (lw_V q1359 q1360 q1361 q136 q1362) rfl rfl rfl (by decide +kernel) ⟨(by show (3) + 1 ≤ 4 * (k + 1) + 24; omega), (by show 8 + (2 + 11) + (81) ≤ 300 * (k + 1) + 2200; omega)⟩) (hI.1.o 1 rfl) rfl rfl ⟨leC hu1, leC hu2⟩ rfl rfl (lv_room (Nat.le_of_ble_eq_true rfl)) dX1_atom_121 (fun H12 locs12 hI hk => ?_)
          replace hG9 := hG9.kept (fun q h1 h2 => hk.2 q h1 (hI.notC h2))
          clear hk
          refine lv_if_eq (tgt := 140) hx hb dX1_atom_124 (by decide) (fun hc => ?_) (fun hc => ?_)
          · replace hf := ipos hc hf
            refine lv_aload_n hx hb dX1_atom_140 rfl (lv_at hl 1 rfl) ?_
            refine lv_bipush (v := (62 : Int32)) hx hb dX1_atom_141 (by decide) ?_
            obtain ⟨x13, ex13, hf⟩ := obd hf
            refine qccallI (rest := []) hx hb hts hown hE hI hml hl.1 (mX3_sign Λ Λn x11.2 (62 : Int32) _ _ ex13) (cwV 1 hts (lw_V q1359 q1360 q1361 q136 q1362) rfl rfl rfl (by decide +kernel) ⟨(by show (3) + 1 ≤ 4 * (k + 1) + 24; omega), (by show 8 + (2 + 11) + (81) ≤ 300 * (k + 1) + 2200; omega)⟩) (hI.1.o 1 rfl) rfl rfl ⟨leC hu1, leC hu2⟩ rfl rfl (lv_room (Nat.le_of_ble_eq_true rfl)) dX1_atom_143 (fun H14 locs14 hI hk => ?_)
            replace hG9 := hG9.kept (fun q h1 h2 => hk.2 q h1 (hI.notC h2))
            clear hk
            refine lv_if_ne (tgt := 154) hx hb dX1_atom_146 (by decide) (fun hc => ?_) (fun hc => ?_)
            · replace hf := ineg hc hf
              obtain ⟨C17, hf, eC1, eC2⟩ := addc_e hf
              replace eC1 : C9.1 = 1 + C17.1 := eC1
              replace eC2 : C9.2 = 2 + C17.2 := eC2
              have hn15N : N9 ≤ H14.size := hI.le
              replace hG9 := hG9.mv (G' := fun q => N9 ≤ q ∧ q ≠ H14.size) (fun q h1 h2 => ⟨⟨h2, Nat.ne_of_lt h1⟩, rfl⟩)
              refine qnew (C := RX18) (T := TX18) (N := 2) (ci := 14) (fs := [.null, .null]) hx hb hts in_X18 tyX18 tyX18_ok hown q1611 q1612 q171 hL hI rfl (fun j hj => match j, hj with
                | 0, _ => rfl
                | 1, _ => rfl) (show ((((0 + K3.1) + K5.1) + K7.1) + K9.1) + 1 ≤ T.1 by omega) (show ((((0 + K3.2) + K5.2) + K7.2) + K9.2) + 2 ≤ T.2 by omega) dX1_atom_154 (fun H16 hI hn15 hz15 hk => ?_)
              replace hG9 := hG9.kept (fun q h1 h2 => hk.2 q h1 (hI.notC h2.1))
              clear hk
              replace hu1 : (((((0 + K3.1) + K5.1) + K7.1) + K9.1) + 1) + C17.1 = T.1 := by omega
              replace hu2 : (((((0 + K3.2) + K5.2) + K7.2) + K9.2) + 2) + C17.2 = T.2 := by omega
              clear eC1 eC2
              refine lv_dup hx hb dX1_atom_157 rfl ?_
              refine lv_aload_n hx hb dX1_atom_158 rfl (lv_at hl 2 rfl) ?_
              obtain ⟨x18, K18, C18, ex18, hf, eC1, eC2⟩ := bnd_e hf
              have hle9 : N9 ≤ H16.size := hI.le
              have hnl15 : _ < H16.size := hn15.lt
              refine pcallO (rest := [.ref H14.size, .ref H14.size]) hx hb hts hst hown hL hI hml hl.1 (mX1_sum Λ Λn x13.2 _ _ ex18) (cwV 0 hts (lw_V q1498 q1500 qs33 q133 q1501) rfl rfl rfl (by decide +kernel) ⟨(by show (18) + 1 ≤ 4 * (k + 1) + 24; omega), (by show 8 + (2 + 11) + (1800) ≤ 300 * (k + 1) + 2200; omega)⟩) (hI.1.o 0 rfl) rfl rfl ⟨(show (((((0 + K3.1) + K5.1) + K7.1) + K9.1) + 1) + K18.1 ≤ T.1 by omega), (show (((((0 + K3.2) + K5.2) + K7.2) + K9.2) + 2) + K18.2 ≤ T.2 by omega)⟩ rfl rfl (lv_room (Nat.le_of_ble_eq_true rfl)) dX1_atom_159 (fun E ce q9 σ' H locs ho hn hI h1 h2 h3 => by subst ho; replace hf := selR hf; obtain ⟨ho, hK⟩ := prg_e hf; exact hxx H locs 159 _ _ _ _ E ce q9 _ hI ho hn h1 h2 h3 (show (((((0 + K3.1) + K5.1) + K7.1) + K9.1) + 1) + K18.1 ≤ T.1 by omega) (show (((((0 + K3.2) + K5.2) + K7.2) + K9.2) + 2) + K18.2 ≤ T.2 by omega)) (fun a18 v18 H19 locs19 ho hI hG18 hz hk => ?_)
              subst ho
              replace hf := selL hf
              replace hk : Kp o H16 H19 := ⟨hz, hk⟩
              clear hz
              replace hu1 : ((((((0 + K3.1) + K5.1) + K7.1) + K9.1) + 1) + K18.1) + C18.1 = T.1 := by omega
              replace hu2 : ((((((0 + K3.2) + K5.2) + K7.2) + K9.2) + 2) + K18.2) + C18.2 = T.2 := by omega
              clear eC1 eC2
              replace hG9 := hG9.kept (fun q h1 h2 => hk.2 q h1 (hI.notC h2.1))
              replace hn15 := hn15.kept (hk.2 _ hn15.lt (hI.notC hn15N))
              clear hk
              have hlt9 : H14.size < H16.size := hnl15
              replace hG18 := hG18.mv (G' := fun q => N9 ≤ q ∧ q ≠ H14.size) (fun q h1 h2 => ⟨⟨Nat.le_trans hle9 h2, by have h2 : H16.size ≤ q := h2; omega⟩, rfl⟩)
              clear hle9 hlt9
              refine lv_aload_n hx hb dX1_atom_162 rfl (lv_at hl 0 rfl) ?_
              refine qinit (As := [.ref a18, .ref a9]) (rest := [.ref H14.size]) (fs1 := [.ref a18, .ref a9]) hx hb hts hown hL hI hml hl.1 (fun z hz => mX18_init l D J z aK aV (H14.size) a18 a9 hz) (cwI 2 hts (lw_meth q1615) rfl rfl rfl (hts _ q171) (hts _ q1613) (hts _ q1614) rfl (by decide +kernel) ⟨(by show (1) + 1 ≤ 4 * (k + 1) + 24; omega), (by show 8 + (3 + 11) + (40) ≤ 300 * (k + 1) + 2200; omega)⟩) hn15N hn15 ⟨leC hu1, leC hu2⟩ rfl rfl (lv_room (Nat.le_of_ble_eq_true rfl)) dX1_atom_163 (fun H20 locs20 hI hn15 hz9 hk => ?_)
              replace hG9 := hG9.mv (G' := fun q => N9 ≤ q) (fun q h1 h2 => ⟨h2.1, hk q h1 h2.2⟩)
              replace hG18 := hG18.mv (G' := fun q => N9 ≤ q) (fun q h1 h2 => ⟨h2.1, hk q h1 h2.2⟩)
              clear hk hz9
              obtain ⟨ho, -⟩ := prg_e hf
              exact hret H20 _ 166 _ _ _ _ _ _ hI (CondAt.mono (fun _ h => h) 1 (2 * (k + 1) + 1) _ _ (by omega) ⟨hn15N, Or.inr (Or.inr (Or.inl ⟨a18, a9, _, _, hn15, hG18, hG9, rfl⟩))⟩) ho (leC hu1) (leC hu2) dX1_atom_166
            · replace hf := ipos hc hf
              refine lv_aload_n hx hb dX1_atom_149 rfl (lv_at hl 1 rfl) ?_
              obtain ⟨ho, hK⟩ := prg_e hf
              have hK1 : C9.1 = 1 := congrArg Prod.fst hK
              have hK2 : C9.2 = 6 := congrArg Prod.snd hK
              have hu3 : ((((0 + K3.1) + K5.1) + K7.1) + K9.1) + 1 = T.1 := by omega
              have hu4 : ((((0 + K3.2) + K5.2) + K7.2) + K9.2) + 6 = T.2 := by omega
              refine pwrong (rest := []) hx hb hts hst hown hEP hI hml hl.1 (cwX3_wrong_X1 hts ⟨(by show (4) + 1 ≤ 4 * (k + 1) + 24; omega), (by show 8 + (1 + 11) + (300) ≤ 300 * (k + 1) + 2200; omega)⟩) ⟨Nat.le_of_eq hu3, Nat.le_of_eq hu4⟩ (lv_room (Nat.le_of_ble_eq_true rfl)) dX1_atom_150 dX1_atom_153 (fun E ce q9 H locs hn hI h1 h2 h3 => ?_)
              exact hxx H locs 153 _ _ _ _ E ce q9 _ hI ho hn h1 h2 h3 (Nat.le_of_eq hu3) (Nat.le_of_eq hu4)
          · replace hf := ineg hc hf
            obtain ⟨C55, hf, eC1, eC2⟩ := addc_e hf
            replace eC1 : C9.1 = 1 + C55.1 := eC1
            replace eC2 : C9.2 = 2 + C55.2 := eC2
            have hn53N : N9 ≤ H12.size := hI.le
            replace hG9 := hG9.mv (G' := fun q => N9 ≤ q ∧ q ≠ H12.size) (fun q h1 h2 => ⟨⟨h2, Nat.ne_of_lt h1⟩, rfl⟩)
            refine qnew (C := RX18) (T := TX18) (N := 2) (ci := 14) (fs := [.null, .null]) hx hb hts in_X18 tyX18 tyX18_ok hown q1611 q1612 q171 hL hI rfl (fun j hj => match j, hj with
              | 0, _ => rfl
              | 1, _ => rfl) (show ((((0 + K3.1) + K5.1) + K7.1) + K9.1) + 1 ≤ T.1 by omega) (show ((((0 + K3.2) + K5.2) + K7.2) + K9.2) + 2 ≤ T.2 by omega) dX1_atom_127 (fun H54 hI hn53 hz53 hk => ?_)
            replace hG9 := hG9.kept (fun q h1 h2 => hk.2 q h1 (hI.notC h2.1))
            clear hk
            replace hu1 : (((((0 + K3.1) + K5.1) + K7.1) + K9.1) + 1) + C55.1 = T.1 := by omega
            replace hu2 : (((((0 + K3.2) + K5.2) + K7.2) + K9.2) + 2) + C55.2 = T.2 := by omega
            clear eC1 eC2
            refine lv_dup hx hb dX1_atom_130 rfl ?_
            refine lv_aload_n hx hb dX1_atom_131 rfl (lv_at hl 0 rfl) ?_
            refine lv_aload_n hx hb dX1_atom_132 rfl (lv_at hl 2 rfl) ?_
            obtain ⟨x56, K56, C56, ex56, hf, eC1, eC2⟩ := bnd_e hf
            have hle9 : N9 ≤ H54.size := hI.le
            have hnl53 : _ < H54.size := hn53.lt
            refine pcallO (rest := [.ref a9, .ref H12.size, .ref H12.size]) hx hb hts hst hown hL hI hml hl.1 (mX1_sum Λ Λn x11.2 _ _ ex56) (cwV 0 hts (lw_V q1498 q1500 qs33 q133 q1501) rfl rfl rfl (by decide +kernel) ⟨(by show (18) + 1 ≤ 4 * (k + 1) + 24; omega), (by show 8 + (2 + 11) + (1800) ≤ 300 * (k + 1) + 2200; omega)⟩) (hI.1.o 0 rfl) rfl rfl ⟨(show (((((0 + K3.1) + K5.1) + K7.1) + K9.1) + 1) + K56.1 ≤ T.1 by omega), (show (((((0 + K3.2) + K5.2) + K7.2) + K9.2) + 2) + K56.2 ≤ T.2 by omega)⟩ rfl rfl (lv_room (Nat.le_of_ble_eq_true rfl)) dX1_atom_133 (fun E ce q9 σ' H locs ho hn hI h1 h2 h3 => by subst ho; replace hf := selR hf; obtain ⟨ho, hK⟩ := prg_e hf; exact hxx H locs 133 _ _ _ _ E ce q9 _ hI ho hn h1 h2 h3 (show (((((0 + K3.1) + K5.1) + K7.1) + K9.1) + 1) + K56.1 ≤ T.1 by omega) (show (((((0 + K3.2) + K5.2) + K7.2) + K9.2) + 2) + K56.2 ≤ T.2 by omega)) (fun a56 v56 H57 locs57 ho hI hG56 hz hk => ?_)
            subst ho
            replace hf := selL hf
            replace hk : Kp o H54 H57 := ⟨hz, hk⟩
            clear hz
            replace hu1 : ((((((0 + K3.1) + K5.1) + K7.1) + K9.1) + 1) + K56.1) + C56.1 = T.1 := by omega
            replace hu2 : ((((((0 + K3.2) + K5.2) + K7.2) + K9.2) + 2) + K56.2) + C56.2 = T.2 := by omega
            clear eC1 eC2
            replace hG9 := hG9.kept (fun q h1 h2 => hk.2 q h1 (hI.notC h2.1))
            replace hn53 := hn53.kept (hk.2 _ hn53.lt (hI.notC hn53N))
            clear hk
            have hlt9 : H12.size < H54.size := hnl53
            replace hG56 := hG56.mv (G' := fun q => N9 ≤ q ∧ q ≠ H12.size) (fun q h1 h2 => ⟨⟨Nat.le_trans hle9 h2, by have h2 : H54.size ≤ q := h2; omega⟩, rfl⟩)
            clear hle9 hlt9
            refine qinit (As := [.ref a9, .ref a56]) (rest := [.ref H12.size]) (fs1 := [.ref a9, .ref a56]) hx hb hts hown hL hI hml hl.1 (fun z hz => mX18_init l D J z aK aV (H12.size) a9 a56 hz) (cwI 2 hts (lw_meth q1615) rfl rfl rfl (hts _ q171) (hts _ q1613) (hts _ q1614) rfl (by decide +kernel) ⟨(by show (1) + 1 ≤ 4 * (k + 1) + 24; omega), (by show 8 + (3 + 11) + (40) ≤ 300 * (k + 1) + 2200; omega)⟩) hn53N hn53 ⟨leC hu1, leC hu2⟩ rfl rfl (lv_room (Nat.le_of_ble_eq_true rfl)) dX1_atom_136 (fun H58 locs58 hI hn53 hz9 hk => ?_)
            replace hG9 := hG9.mv (G' := fun q => N9 ≤ q) (fun q h1 h2 => ⟨h2.1, hk q h1 h2.2⟩)
            replace hG56 := hG56.mv (G' := fun q => N9 ≤ q) (fun q h1 h2 => ⟨h2.1, hk q h1 h2.2⟩)
            clear hk hz9
            obtain ⟨ho, -⟩ := prg_e hf
            exact hret H58 _ 139 _ _ _ _ _ _ hI (CondAt.mono (fun _ h => h) 1 (2 * (k + 1) + 1) _ _ (by omega) ⟨hn53N, Or.inr (Or.inr (Or.inl ⟨a9, a56, _, _, hn53, hG9, hG56, rfl⟩))⟩) ho (leC hu1) (leC hu2) dX1_atom_139
        · replace hf := ineg hc hf
          obtain ⟨C51, hf, eC1, eC2⟩ := addc_e hf
          replace eC1 : C7.1 = 1 + C51.1 := eC1
          replace eC2 : C7.2 = 1 + C51.2 := eC2
          have hn49N : N9 ≤ H8.size := hI.le
          refine qnew (C := RX14) (T := TX14) (N := 1) (ci := 11) (fs := [.int 0]) hx hb hts in_X14 tyX14 tyX14_ok hown q1487 q1488 q167 hL hI rfl (fun j hj => match j, hj with
            | 0, _ => rfl) (show (((0 + K3.1) + K5.1) + K7.1) + 1 ≤ T.1 by omega) (show (((0 + K3.2) + K5.2) + K7.2) + 1 ≤ T.2 by omega) dX1_atom_104 (fun H50 hI hn49 hz49 hk => ?_)
          clear hk
          replace hu1 : ((((0 + K3.1) + K5.1) + K7.1) + 1) + C51.1 = T.1 := by omega
          replace hu2 : ((((0 + K3.2) + K5.2) + K7.2) + 1) + C51.2 = T.2 := by omega
          clear eC1 eC2
          refine lv_dup hx hb dX1_atom_107 rfl ?_
          refine lv_iconst (v := (0 : Int32)) hx hb dX1_atom_108 (by decide) ?_
          refine qinit (As := [.int 0]) (rest := [.ref H8.size]) (fs1 := [.int 0]) hx hb hts hown hL hI hml hl.1 (fun z hz => mX14_init l D J z aK aV (H8.size) 0 hz (by decide)) (cwI 1 hts (lw_meth q1491) rfl rfl rfl (hts _ q167) (hts _ q1489) (hts _ q1490) rfl (by decide +kernel) ⟨(by show (1) + 1 ≤ 4 * (k + 1) + 24; omega), (by show 8 + (2 + 11) + (40) ≤ 300 * (k + 1) + 2200; omega)⟩) hn49N hn49 ⟨leC hu1, leC hu2⟩ rfl rfl (lv_room (Nat.le_of_ble_eq_true rfl)) dX1_atom_109 (fun H52 locs52 hI hn49 hz9 hk => ?_)
          clear hk hz9
          obtain ⟨ho, -⟩ := prg_e hf
          exact hret H52 _ 112 _ _ _ _ _ _ hI (CondAt.mono (fun _ h => h) 1 (2 * (k + 1) + 1) _ _ (by omega) ⟨hn49N, Or.inl ⟨0, by decide, hn49, rfl⟩⟩) ho (leC hu1) (leC hu2) dX1_atom_112
      · replace hf := ineg hc hf
        obtain ⟨C49, hf, eC1, eC2⟩ := addc_e hf
        replace eC1 : C5.1 = 1 + C49.1 := eC1
        replace eC2 : C5.2 = 1 + C49.2 := eC2
        have hn47N : N9 ≤ H6.size := hI.le
        refine qnew (C := RX14) (T := TX14) (N := 1) (ci := 11) (fs := [.int 0]) hx hb hts in_X14 tyX14 tyX14_ok hown q1487 q1488 q167 hL hI rfl (fun j hj => match j, hj with
          | 0, _ => rfl) (show ((0 + K3.1) + K5.1) + 1 ≤ T.1 by omega) (show ((0 + K3.2) + K5.2) + 1 ≤ T.2 by omega) dX1_atom_85 (fun H48 hI hn47 hz47 hk => ?_)
        clear hk
        replace hu1 : (((0 + K3.1) + K5.1) + 1) + C49.1 = T.1 := by omega
        replace hu2 : (((0 + K3.2) + K5.2) + 1) + C49.2 = T.2 := by omega
        clear eC1 eC2
        refine lv_dup hx hb dX1_atom_88 rfl ?_
        refine lv_iconst (v := (1 : Int32)) hx hb dX1_atom_89 (by decide) ?_
        refine qinit (As := [.int 1]) (rest := [.ref H6.size]) (fs1 := [.int 1]) hx hb hts hown hL hI hml hl.1 (fun z hz => mX14_init l D J z aK aV (H6.size) 1 hz (by decide)) (cwI 1 hts (lw_meth q1491) rfl rfl rfl (hts _ q167) (hts _ q1489) (hts _ q1490) rfl (by decide +kernel) ⟨(by show (1) + 1 ≤ 4 * (k + 1) + 24; omega), (by show 8 + (2 + 11) + (40) ≤ 300 * (k + 1) + 2200; omega)⟩) hn47N hn47 ⟨leC hu1, leC hu2⟩ rfl rfl (lv_room (Nat.le_of_ble_eq_true rfl)) dX1_atom_90 (fun H50 locs50 hI hn47 hz9 hk => ?_)
        clear hk hz9
        obtain ⟨ho, -⟩ := prg_e hf
        exact hret H50 _ 93 _ _ _ _ _ _ hI (CondAt.mono (fun _ h => h) 1 (2 * (k + 1) + 1) _ _ (by omega) ⟨hn47N, Or.inl ⟨1, by decide, hn47, rfl⟩⟩) ho (leC hu1) (leC hu2) dX1_atom_93
    · replace hf := ineg hc hf
      refine lv_aload_n hx hb dX1_atom_53 rfl (lv_at hl 0 rfl) ?_
      obtain ⟨x45, K45, C45, ex45, hf, eC1, eC2⟩ := bnd_e hf
      refine qpcallV (rest := []) hx hb hts hst hown hEP hI hml hl.1 (mX3_goesDeeper Λ Λn v3.2 _ _ ex45) (cwV 0 hts (lw_V q1467 q1468 q1469 q136 q1470) rfl rfl rfl (by decide +kernel) ⟨(by show (8) + 1 ≤ 4 * (k + 1) + 24; omega), (by show 8 + (1 + 11) + (320) ≤ 300 * (k + 1) + 2200; omega)⟩) (hI.1.o 1 rfl) rfl rfl ⟨(show (0 + K3.1) + K45.1 ≤ T.1 by omega), (show (0 + K3.2) + K45.2 ≤ T.2 by omega)⟩ rfl rfl (lv_room (Nat.le_of_ble_eq_true rfl)) dX1_atom_54 (fun E ce q9 σ' H locs ho hn hI h1 h2 h3 => by subst ho; replace hf := selR hf; obtain ⟨ho, hK⟩ := prg_e hf; exact hxx H locs 54 _ _ _ _ E ce q9 _ hI ho hn h1 h2 h3 (show (0 + K3.1) + K45.1 ≤ T.1 by omega) (show (0 + K3.2) + K45.2 ≤ T.2 by omega)) (fun v45 H46 locs46 ho hI hk => ?_)
      subst ho
      replace hf := selL hf
      replace hu1 : ((0 + K3.1) + K45.1) + C45.1 = T.1 := by omega
      replace hu2 : ((0 + K3.2) + K45.2) + C45.2 = T.2 := by omega
      clear eC1 eC2
      clear hk
      refine lv_aload_n hx hb dX1_atom_57 rfl (lv_at hl 1 rfl) ?_
      obtain ⟨x47, K47, C47, ex47, hf, eC1, eC2⟩ := bnd_e hf
      have hle9 : N9 ≤ H46.size := hI.le
      refine pcallO (rest := []) hx hb hts hst hown hL hI hml hl.1 (ih v45.2 _ _ ex47) (cwV 0 hts (lw_V q1463 q1465 qs32 q133 q1466) rfl rfl rfl (by decide +kernel) ⟨(by show (4 * k + 24) + 1 ≤ 4 * (k + 1) + 24; omega), (by show 8 + (3 + 11) + (300 * k + 2200) ≤ 300 * (k + 1) + 2200; omega)⟩) (hI.1.o 0 rfl) rfl rfl ⟨(show ((0 + K3.1) + K45.1) + K47.1 ≤ T.1 by omega), (show ((0 + K3.2) + K45.2) + K47.2 ≤ T.2 by omega)⟩ rfl rfl (lv_room (Nat.le_of_ble_eq_true rfl)) dX1_atom_58 (fun E ce q9 σ' H locs ho hn hI h1 h2 h3 => by subst ho; replace hf := selR hf; obtain ⟨ho, hK⟩ := prg_e hf; exact hxx H locs 58 _ _ _ _ E ce q9 _ hI ho hn h1 h2 h3 (show ((0 + K3.1) + K45.1) + K47.1 ≤ T.1 by omega) (show ((0 + K3.2) + K45.2) + K47.2 ≤ T.2 by omega)) (fun a47 v47 H48 locs48 ho hI hG47 hz hk => ?_)
      subst ho
      replace hf := selL hf
      replace hk : Kp o H46 H48 := ⟨hz, hk⟩
      clear hz
      replace hu1 : (((0 + K3.1) + K45.1) + K47.1) + C47.1 = T.1 := by omega
      replace hu2 : (((0 + K3.2) + K45.2) + K47.2) + C47.2 = T.2 := by omega
      clear eC1 eC2
      clear hk
      replace hG47 := CondAt.mv (G' := fun q => N9 ≤ q) (fun q h1 h2 => ⟨Nat.le_trans hle9 h2, rfl⟩) _ _ _ hG47
      clear hle9
      refine lv_astore_n (lv' := [(2, .ref a47), (1, .ref (o + 61)), (0, .ref o)]) hx hb dX1_atom_61 rfl hl (by decide) rfl (fun ls hl => ?_)
      refine lv_aload_n hx hb dX1_atom_62 rfl (lv_at hl 1 rfl) ?_
      obtain ⟨x49, ex49, hf⟩ := obd hf
      refine qccallV (rest := []) hx hb hts hown hE hI hml hl.1 (mX3_comesUp Λ Λn v47.2 _ ex49) (cwV 0 hts (lw_V q1471 q1472 q1473 q136 q1474) rfl rfl rfl (by decide +kernel) ⟨(by show (1) + 1 ≤ 4 * (k + 1) + 24; omega), (by show 8 + (1 + 11) + (40) ≤ 300 * (k + 1) + 2200; omega)⟩) (hI.1.o 1 rfl) rfl rfl ⟨leC hu1, leC hu2⟩ rfl rfl (lv_room (Nat.le_of_ble_eq_true rfl)) dX1_atom_63 (fun H50 locs50 hI hk => ?_)
      replace hG47 := CondAt.kept (fun q h1 h2 => hk.2 q h1 (hI.notC h2)) _ _ _ hG47
      clear hk
      obtain ⟨C53, hf, eC1, eC2⟩ := addc_e hf
      replace eC1 : C47.1 = 1 + C53.1 := eC1
      replace eC2 : C47.2 = 1 + C53.2 := eC2
      have hn51N : N9 ≤ H50.size := hI.le
      replace hG47 := CondAt.mv (G' := fun q => N9 ≤ q ∧ q ≠ H50.size) (fun q h1 h2 => ⟨⟨h2, Nat.ne_of_lt h1⟩, rfl⟩) _ _ _ hG47
      refine qnew (C := RX13) (T := TX13) (N := 1) (ci := 10) (fs := [.null]) hx hb hts in_X13 tyX13 tyX13_ok hown q1476 q1477 q166 hL hI rfl (fun j hj => match j, hj with
        | 0, _ => rfl) (show (((0 + K3.1) + K45.1) + K47.1) + 1 ≤ T.1 by omega) (show (((0 + K3.2) + K45.2) + K47.2) + 1 ≤ T.2 by omega) dX1_atom_66 (fun H52 hI hn51 hz51 hk => ?_)
      replace hG47 := CondAt.kept (fun q h1 h2 => hk.2 q h1 (hI.notC h2.1)) _ _ _ hG47
      clear hk
      replace hu1 : ((((0 + K3.1) + K45.1) + K47.1) + 1) + C53.1 = T.1 := by omega
      replace hu2 : ((((0 + K3.2) + K45.2) + K47.2) + 1) + C53.2 = T.2 := by omega
      clear eC1 eC2
      refine lv_dup hx hb dX1_atom_69 rfl ?_
      refine lv_aload_n hx hb dX1_atom_70 rfl (lv_at hl 0 rfl) ?_
      refine qinit (As := [.ref a47]) (rest := [.ref H50.size]) (fs1 := [.ref a47]) hx hb hts hown hL hI hml hl.1 (fun z hz => mX13_init l D J z aK aV (H50.size) a47 hz) (cwI 1 hts (lw_meth q1480) rfl rfl rfl (hts _ q166) (hts _ q1478) (hts _ q1479) rfl (by decide +kernel) ⟨(by show (1) + 1 ≤ 4 * (k + 1) + 24; omega), (by show 8 + (2 + 11) + (40) ≤ 300 * (k + 1) + 2200; omega)⟩) hn51N hn51 ⟨leC hu1, leC hu2⟩ rfl rfl (lv_room (Nat.le_of_ble_eq_true rfl)) dX1_atom_71 (fun H54 locs54 hI hn51 hz9 hk => ?_)
      replace hG47 := CondAt.mv (G' := fun q => N9 ≤ q) (fun q h1 h2 => ⟨h2.1, hk q h1 h2.2⟩) _ _ _ hG47
      clear hk hz9
      obtain ⟨ho, -⟩ := prg_e hf
      exact hret H54 _ 74 _ _ _ _ _ _ hI (CondAt.mono (fun _ h => h) (2 * k + 1 + 1) (2 * (k + 1) + 1) _ _ (by omega) ⟨hn51N, Or.inr (Or.inl ⟨a47, _, hn51, hG47, rfl⟩)⟩) ho (leC hu1) (leC hu2) dX1_atom_74
  · replace hf := ineg hc hf
    refine lv_aload_n hx hb dX1_atom_14 rfl (lv_at hl 0 rfl) ?_
    obtain ⟨x43, K43, C43, ex43, hf, eC1, eC2⟩ := bnd_e hf
    refine qpcallV (rest := []) hx hb hts hst hown hEP hI hml hl.1 (mX3_goesDeeper Λ Λn x1.2 _ _ ex43) (cwV 0 hts (lw_V q1467 q1468 q1469 q136 q1470) rfl rfl rfl (by decide +kernel) ⟨(by show (8) + 1 ≤ 4 * (k + 1) + 24; omega), (by show 8 + (1 + 11) + (320) ≤ 300 * (k + 1) + 2200; omega)⟩) (hI.1.o 1 rfl) rfl rfl ⟨(show 0 + K43.1 ≤ T.1 by omega), (show 0 + K43.2 ≤ T.2 by omega)⟩ rfl rfl (lv_room (Nat.le_of_ble_eq_true rfl)) dX1_atom_15 (fun E ce q9 σ' H locs ho hn hI h1 h2 h3 => by subst ho; replace hf := selR hf; obtain ⟨ho, hK⟩ := prg_e hf; exact hxx H locs 15 _ _ _ _ E ce q9 _ hI ho hn h1 h2 h3 (show 0 + K43.1 ≤ T.1 by omega) (show 0 + K43.2 ≤ T.2 by omega)) (fun v43 H44 locs44 ho hI hk => ?_)
    subst ho
    replace hf := selL hf
    replace hu1 : (0 + K43.1) + C43.1 = T.1 := by omega
    replace hu2 : (0 + K43.2) + C43.2 = T.2 := by omega
    clear eC1 eC2
    clear hk
    refine lv_aload_n hx hb dX1_atom_18 rfl (lv_at hl 1 rfl) ?_
    obtain ⟨x45, K45, C45, ex45, hf, eC1, eC2⟩ := bnd_e hf
    have hle9 : N9 ≤ H44.size := hI.le
    refine pcallO (rest := []) hx hb hts hst hown hL hI hml hl.1 (mX1_cond Λ Λn (X1_row (X1_atom k) 26 1) (2 * k + 1) (4 * k + 25) (300 * k + 2300) (by omega) (by omega) (fun τ out T hf => mX1_allOf Λ Λn (X1_atom k) (2 * k) (4 * k + 24) (300 * k + 2200) (by omega) (by omega) (fun τ out T hf => ih τ out T hf) τ out T hf) v43.2 _ _ ex45) (cwV 0 hts (lw_V q1439 q1441 qs30 q133 q1442) rfl rfl rfl (by decide +kernel) ⟨(by show (4 * k + 26) + 1 ≤ 4 * (k + 1) + 24; omega), (by show 8 + (2 + 11) + (300 * k + 2400) ≤ 300 * (k + 1) + 2200; omega)⟩) (hI.1.o 0 rfl) rfl rfl ⟨(show (0 + K43.1) + K45.1 ≤ T.1 by omega), (show (0 + K43.2) + K45.2 ≤ T.2 by omega)⟩ rfl rfl (lv_room (Nat.le_of_ble_eq_true rfl)) dX1_atom_19 (fun E ce q9 σ' H locs ho hn hI h1 h2 h3 => by subst ho; replace hf := selR hf; obtain ⟨ho, hK⟩ := prg_e hf; exact hxx H locs 19 _ _ _ _ E ce q9 _ hI ho hn h1 h2 h3 (show (0 + K43.1) + K45.1 ≤ T.1 by omega) (show (0 + K43.2) + K45.2 ≤ T.2 by omega)) (fun a45 v45 H46 locs46 ho hI hG45 hz hk => ?_)
    subst ho
    replace hf := selL hf
    replace hk : Kp o H44 H46 := ⟨hz, hk⟩
    clear hz
    replace hu1 : ((0 + K43.1) + K45.1) + C45.1 = T.1 := by omega
    replace hu2 : ((0 + K43.2) + K45.2) + C45.2 = T.2 := by omega
    clear eC1 eC2
    clear hk
    replace hG45 := CondAt.mv (G' := fun q => N9 ≤ q) (fun q h1 h2 => ⟨Nat.le_trans hle9 h2, rfl⟩) _ _ _ hG45
    clear hle9
    refine lv_astore_n (lv' := [(2, .ref a45), (1, .ref (o + 61)), (0, .ref o)]) hx hb dX1_atom_22 rfl hl (by decide) rfl (fun ls hl => ?_)
    refine lv_aload_n hx hb dX1_atom_23 rfl (lv_at hl 1 rfl) ?_
    obtain ⟨x47, ex47, hf⟩ := obd hf
    refine qccallV (rest := []) hx hb hts hown hE hI hml hl.1 (mX3_comesUp Λ Λn v45.2 _ ex47) (cwV 0 hts (lw_V q1471 q1472 q1473 q136 q1474) rfl rfl rfl (by decide +kernel) ⟨(by show (1) + 1 ≤ 4 * (k + 1) + 24; omega), (by show 8 + (1 + 11) + (40) ≤ 300 * (k + 1) + 2200; omega)⟩) (hI.1.o 1 rfl) rfl rfl ⟨leC hu1, leC hu2⟩ rfl rfl (lv_room (Nat.le_of_ble_eq_true rfl)) dX1_atom_24 (fun H48 locs48 hI hk => ?_)
    replace hG45 := CondAt.kept (fun q h1 h2 => hk.2 q h1 (hI.notC h2)) _ _ _ hG45
    clear hk
    refine lv_aload_n hx hb dX1_atom_27 rfl (lv_at hl 1 rfl) ?_
    refine lv_bipush (v := (41 : Int32)) hx hb dX1_atom_28 (by decide) ?_
    obtain ⟨x49, ex49, hf⟩ := obd hf
    refine qccallI (rest := []) hx hb hts hown hE hI hml hl.1 (mX3_sign Λ Λn x47 (41 : Int32) _ _ ex49) (cwV 1 hts (lw_V q1359 q1360 q1361 q136 q1362) rfl rfl rfl (by decide +kernel) ⟨(by show (3) + 1 ≤ 4 * (k + 1) + 24; omega), (by show 8 + (2 + 11) + (81) ≤ 300 * (k + 1) + 2200; omega)⟩) (hI.1.o 1 rfl) rfl rfl ⟨leC hu1, leC hu2⟩ rfl rfl (lv_room (Nat.le_of_ble_eq_true rfl)) dX1_atom_30 (fun H50 locs50 hI hk => ?_)
    replace hG45 := CondAt.kept (fun q h1 h2 => hk.2 q h1 (hI.notC h2)) _ _ _ hG45
    clear hk
    refine lv_if_ne (tgt := 41) hx hb dX1_atom_33 (by decide) (fun hc => ?_) (fun hc => ?_)
    · replace hf := ineg hc hf
      refine lv_aload_n hx hb dX1_atom_41 rfl (lv_at hl 0 rfl) ?_
      obtain ⟨ho, -⟩ := prg_e hf
      exact hret H50 _ 42 _ _ _ _ _ _ hI (CondAt.mono (fun _ h => h) (2 * k + 1 + 2) (2 * (k + 1) + 1) _ _ (by omega) hG45) ho (leC hu1) (leC hu2) dX1_atom_42
    · replace hf := ipos hc hf
      refine lv_aload_n hx hb dX1_atom_36 rfl (lv_at hl 1 rfl) ?_
      obtain ⟨ho, hK⟩ := prg_e hf
      have hK1 : C45.1 = 1 := congrArg Prod.fst hK
      have hK2 : C45.2 = 6 := congrArg Prod.snd hK
      have hu3 : ((0 + K43.1) + K45.1) + 1 = T.1 := by omega
      have hu4 : ((0 + K43.2) + K45.2) + 6 = T.2 := by omega
      refine pwrong (rest := []) hx hb hts hst hown hEP hI hml hl.1 (cwX3_wrong_X1 hts ⟨(by show (4) + 1 ≤ 4 * (k + 1) + 24; omega), (by show 8 + (1 + 11) + (300) ≤ 300 * (k + 1) + 2200; omega)⟩) ⟨Nat.le_of_eq hu3, Nat.le_of_eq hu4⟩ (lv_room (Nat.le_of_ble_eq_true rfl)) dX1_atom_37 dX1_atom_40 (fun E ce q9 H locs hn hI h1 h2 h3 => ?_)
      exact hxx H locs 40 _ _ _ _ E ce q9 _ hI ho hn h1 h2 h3 (Nat.le_of_eq hu3) (Nat.le_of_eq hu4)
theorem mX1_condK (Λ : Nat → Nat → (Nat → Int32) → Int32) (Λn : Nat → Int32) (k : Nat) (τ : Cs) (out : FcP) (T : Kc) (hf : X1_cond k τ = some (out, T)) : PXo yX1_cond cX1_cond 2 (some (.object "LateInks$Cond")) (4 * k + 26) (300 * k + 2400) Λ Λn (fun o => [.ref o]) (fun D J G aF a (g : FcV) H => CondAt D J G aF (2 * k + 3) a g H) out T τ :=
  mX1_cond Λ Λn (X1_row (X1_atom k) 26 1) (2 * k + 1) (4 * k + 25) (300 * k + 2300) (by omega) (by omega) (fun τ out T hf => mX1_allOf Λ Λn (X1_atom k) (2 * k) (4 * k + 24) (300 * k + 2200) (by omega) (by omega) (fun τ out T hf => mX1_atom Λ Λn k τ out T hf) τ out T hf) τ out T hf
