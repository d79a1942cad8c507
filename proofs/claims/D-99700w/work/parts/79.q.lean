set_option maxRecDepth 100000
theorem oel_n {A B : Type} {b : B} {f : A → B} : Option.elim (none : Option A) b f = b := rfl
theorem oel_s {A B : Type} {b : B} {f : A → B} {x : A} : Option.elim (some x) b f = f x := rfl
set_option maxHeartbeats 4000000 in
theorem mX1_onePart (Λ : Nat → Nat → (Nat → Int32) → Int32) (Λn : Nat → Int32) (τ : Cs) (out : FcP) (T : Kc) (hf : X1_onePart τ = some (out, T)) : PXo yX1_onePart cX1_onePart 2 (some (.object "LateInks$Part")) (17) (1700) Λ Λn (fun o => [.ref o]) (fun D J G aF a (g : FcV) H => PartAt D G aF a g H) out T τ := by
  refine PXo.of (by decide) (fun _ => Nat.le_of_ble_eq_true rfl) ?_
  intro p l e s m args below meth c D8 D J o z aK aV G Ld aF e0 mi N9 Q ls hst hx hb hml hown hts hL hret hxx hI hl
  have hEP := hL.1
  have hE := hEP.1
  obtain ⟨H, eH⟩ : ∃ H, H = s.heap := ⟨_, rfl⟩
  obtain ⟨locs, eL⟩ : ∃ L : List Loc, L = [] := ⟨_, rfl⟩
  rw [← eH, ← eL] at hI ⊢
  have hown : s.vm.findClass RX1 = some m.cls := hown
  have hu1 : 0 + T.1 = T.1 := Nat.zero_add _
  have hu2 : 0 + T.2 = T.2 := Nat.zero_add _
  have hl : lv_has ls 2 [(0, .ref o)] := hl
  unfold X1_onePart at hf
  refine lv_aload_n hx hb dX1_onePart_0 rfl (lv_at hl 0 rfl) ?_
  refine gget hx hb hts in_X1 hown hE.1.1 (hI.1.o 0 rfl) rfl 4 (by decide) q469 rfl dX1_onePart_1 ?_
  obtain ⟨x1, ex1, hf⟩ := obd hf
  refine qccallI (rest := []) hx hb hts hown hE hI hml hl.1 (mX3_isFigure Λ Λn τ _ _ ex1) (cwV 0 hts (lw_V q1519 q1520 q1521 q136 q1522) rfl rfl rfl (by decide +kernel) ⟨(by show (3) + 1 ≤ 17; omega), (by show 8 + (1 + 11) + (81) ≤ 1700; omega)⟩) (hI.1.o 1 rfl) rfl rfl ⟨leC hu1, leC hu2⟩ rfl rfl (lv_room (Nat.le_of_ble_eq_true rfl)) dX1_onePart_4 (fun H2 locs2 hI hk => ?_)
  clear hk
  refine lv_if_eq (tgt := 30) hx hb dX1_onePart_7 (by decide) (fun hc => ?_) (fun hc => ?_)
  · replace hf := ipos hc hf
    refine lv_aload_n hx hb dX1_onePart_30 rfl (lv_at hl 0 rfl) ?_
    refine gget hx hb hts in_X1 hown hE.1.1 (hI.1.o 0 rfl) rfl 4 (by decide) q469 rfl dX1_onePart_31 ?_
    obtain ⟨t3, et3, hf⟩ := obd hf
    obtain ⟨C5, hf, eC1, eC2⟩ := addc_e hf
    replace eC1 : T.1 = wC t3 + C5.1 := eC1
    replace eC2 : T.2 = wS t3 + C5.2 := eC2
    refine qpword (rest := []) hx hb hts hown hEP hI hml hl.1 et3 (cwX3_word_X1 hts ⟨(by show (14) + 1 ≤ 17; omega), (by show 8 + (3 + 11) + (1500) ≤ 1700; omega)⟩) ⟨(show 0 + wC t3 ≤ T.1 by omega), (show 0 + wS t3 ≤ T.2 by omega)⟩ (lv_room (Nat.le_of_ble_eq_true rfl)) dX1_onePart_34 (fun st3 va3 H4 locs4 hI hk hs3 => ?_)
    replace hu1 : (0 + wC t3) + C5.1 = T.1 := by omega
    replace hu2 : (0 + wS t3) + C5.2 = T.2 := by omega
    clear eC1 eC2
    clear hk
    obtain ⟨C6, hf, eC1, eC2⟩ := addc_e hf
    replace eC1 : C5.1 = 1 + C6.1 := eC1
    replace eC2 : C5.2 = 7 + C6.2 := eC2
    refine qfact (rest := []) hx hb hts hown hL hI hml hl.1 hs3 ⟨(by show 5 ≤ 17; omega), (by show 400 ≤ 1700; omega)⟩ ⟨(show (0 + wC t3) + 1 ≤ T.1 by omega), (show (0 + wS t3) + 7 ≤ T.2 by omega)⟩ (lv_room (Nat.le_of_ble_eq_true rfl)) dX1_onePart_37 (fun H7 locs7 hI hk => ?_)
    clear hk hs3
    replace hu1 : ((0 + wC t3) + 1) + C6.1 = T.1 := by omega
    replace hu2 : ((0 + wS t3) + 7) + C6.2 = T.2 := by omega
    clear eC1 eC2
    cases hef : efnd jsF t3 7 0 with
    | none =>
      rw [hef, oel_n] at hf
      rw [Option.map_none]
      refine lv_astore_nN (lv' := [(1, .null), (0, .ref o)]) hx hb dX1_onePart_40 rfl hl (by decide) rfl (fun ls hl => ?_)
      refine lv_aload_nN hx hb dX1_onePart_41 rfl (lv_at hl 0 rfl) ?_
      refine lv_ifnonnullN hx hb dX1_onePart_42 ?_
      refine lv_aload_n hx hb dX1_onePart_45 rfl (lv_at hl 1 rfl) ?_
      refine gget hx hb hts in_X1 hown hE.1.1 (hI.1.o 0 rfl) rfl 4 (by decide) q469 rfl dX1_onePart_46 ?_
      obtain ⟨ho, hK⟩ := prg_e hf
      have hK1 : C6.1 = 1 := congrArg Prod.fst hK
      have hK2 : C6.2 = 6 := congrArg Prod.snd hK
      have hu3 : ((0 + wC t3) + 1) + 1 = T.1 := by omega
      have hu4 : ((0 + wS t3) + 7) + 6 = T.2 := by omega
      refine pwrong (rest := []) hx hb hts hst hown hEP hI hml hl.1 (cwX3_wrong_X1 hts ⟨(by show (4) + 1 ≤ 17; omega), (by show 8 + (1 + 11) + (300) ≤ 1700; omega)⟩) ⟨Nat.le_of_eq hu3, Nat.le_of_eq hu4⟩ (lv_room (Nat.le_of_ble_eq_true rfl)) dX1_onePart_49 dX1_onePart_52 (fun E ce q9 H locs hn hI h1 h2 h3 => ?_)
      exact hxx H locs 52 _ _ _ _ E ce q9 _ hI ho hn h1 h2 h3 (Nat.le_of_eq hu3) (Nat.le_of_eq hu4)
    | some i =>
      rw [hef, oel_s] at hf
      rw [Option.map_some]
      have hi7 := efnd_lt _ _ _ _ _ hef
      refine lv_astore_n (lv' := [(1, .ref (aF (0 + i))), (0, .ref o)]) hx hb dX1_onePart_40 rfl hl (by decide) rfl (fun ls hl => ?_)
      refine lv_aload_n hx hb dX1_onePart_41 rfl (lv_at hl 0 rfl) ?_
      refine lv_ifnonnull (tgt := 53) hx hb dX1_onePart_42 (by decide) ?_
      obtain ⟨C50, hf, eC1, eC2⟩ := addc_e hf
      replace eC1 : C6.1 = 1 + C50.1 := eC1
      replace eC2 : C6.2 = 2 + C50.2 := eC2
      have hn48N : N9 ≤ H7.size := hI.le
      refine qnew (C := RX16) (T := TX16) (N := 2) (ci := 13) (fs := [.int 0, .null]) hx hb hts in_X16 tyX16 tyX16_ok hown q1523 q1524 q169 hL hI rfl (fun j hj => match j, hj with
        | 0, _ => rfl
        | 1, _ => rfl) (show ((0 + wC t3) + 1) + 1 ≤ T.1 by omega) (show ((0 + wS t3) + 7) + 2 ≤ T.2 by omega) dX1_onePart_53 (fun H49 hI hn48 hz48 hk => ?_)
      clear hk
      replace hu1 : (((0 + wC t3) + 1) + 1) + C50.1 = T.1 := by omega
      replace hu2 : (((0 + wS t3) + 7) + 2) + C50.2 = T.2 := by omega
      clear eC1 eC2
      refine lv_dup hx hb dX1_onePart_56 rfl ?_
      refine lv_iconst (v := (0 : Int32)) hx hb dX1_onePart_57 (by decide) ?_
      refine lv_aload_n hx hb dX1_onePart_58 rfl (lv_at hl 0 rfl) ?_
      refine qinit (As := [.int 0, va_rf (some (aF (0 + i)))]) (rest := [.ref H7.size]) (fs1 := [.int 0, va_rf (some (aF (0 + i)))]) hx hb hts hown hL hI hml hl.1 (fun z hz => mX16_init l D J z aK aV (H7.size) 0 (some (aF (0 + i))) hz) (cwI 2 hts (lw_meth q1527) rfl rfl rfl (hts _ q169) (hts _ q1525) (hts _ q1526) rfl (by decide +kernel) ⟨(by show (1) + 1 ≤ 17; omega), (by show 8 + (3 + 11) + (40) ≤ 1700; omega)⟩) hn48N hn48 ⟨leC hu1, leC hu2⟩ rfl rfl (lv_room (Nat.le_of_ble_eq_true rfl)) dX1_onePart_59 (fun H51 locs51 hI hn48 hz9 hk => ?_)
      clear hk hz9
      obtain ⟨ho, -⟩ := prg_e hf
      exact hret H51 _ 62 _ _ _ _ _ _ hI (⟨hn48N, Or.inr ⟨0, i, by omega, by rw [Nat.zero_add] at hn48; exact hn48, rfl⟩⟩) ho (leC hu1) (leC hu2) dX1_onePart_62
  · replace hf := ineg hc hf
    obtain ⟨C45, hf, eC1, eC2⟩ := addc_e hf
    replace eC1 : T.1 = 1 + C45.1 := eC1
    replace eC2 : T.2 = 2 + C45.2 := eC2
    have hn43N : N9 ≤ H2.size := hI.le
    refine qnew (C := RX16) (T := TX16) (N := 2) (ci := 13) (fs := [.int 0, .null]) hx hb hts in_X16 tyX16 tyX16_ok hown q1523 q1524 q169 hL hI rfl (fun j hj => match j, hj with
      | 0, _ => rfl
      | 1, _ => rfl) (show 0 + 1 ≤ T.1 by omega) (show 0 + 2 ≤ T.2 by omega) dX1_onePart_10 (fun H44 hI hn43 hz43 hk => ?_)
    clear hk
    replace hu1 : (0 + 1) + C45.1 = T.1 := by omega
    replace hu2 : (0 + 2) + C45.2 = T.2 := by omega
    clear eC1 eC2
    refine lv_dup hx hb dX1_onePart_13 rfl ?_
    refine lv_aload_n hx hb dX1_onePart_14 rfl (lv_at hl 0 rfl) ?_
    refine gget hx hb hts in_X1 hown hE.1.1 (hI.1.o 0 rfl) rfl 4 (by decide) q469 rfl dX1_onePart_15 ?_
    refine lv_iconst (v := (0 : Int32)) hx hb dX1_onePart_18 (by decide) ?_
    refine lv_sipush (v := (999 : Int32)) hx hb dX1_onePart_19 (by decide) ?_
    obtain ⟨x46, K46, C46, ex46, hf, eC1, eC2⟩ := bnd_e hf
    refine qpcallI (rest := [.ref H2.size, .ref H2.size]) hx hb hts hst hown hEP hI hml hl.1 (mX3_number Λ Λn x1.2 (0 : Int32) (999 : Int32) _ _ ex46) (cwV 2 hts (lw_V q1303 q1304 q1305 q136 q1306) rfl rfl rfl (by decide +kernel) ⟨(by show (9) + 1 ≤ 17; omega), (by show 8 + (3 + 11) + (344) ≤ 1700; omega)⟩) (hI.1.o 1 rfl) rfl rfl ⟨(show (0 + 1) + K46.1 ≤ T.1 by omega), (show (0 + 2) + K46.2 ≤ T.2 by omega)⟩ rfl rfl (lv_room (Nat.le_of_ble_eq_true rfl)) dX1_onePart_22 (fun E ce q9 σ' H locs ho hn hI h1 h2 h3 => by subst ho; replace hf := selR hf; obtain ⟨ho, hK⟩ := prg_e hf; exact hxx H locs 22 _ _ _ _ E ce q9 _ hI ho hn h1 h2 h3 (show (0 + 1) + K46.1 ≤ T.1 by omega) (show (0 + 2) + K46.2 ≤ T.2 by omega)) (fun v46 H47 locs47 ho hI hk => ?_)
    subst ho
    replace hf := selL hf
    replace hu1 : ((0 + 1) + K46.1) + C46.1 = T.1 := by omega
    replace hu2 : ((0 + 2) + K46.2) + C46.2 = T.2 := by omega
    clear eC1 eC2
    replace hn43 := hn43.kept (hk.2 _ hn43.lt (hI.notC hn43N))
    clear hk
    refine lv_null hx hb dX1_onePart_25 ?_
    refine qinit (As := [.int v46.1, va_rf none]) (rest := [.ref H2.size]) (fs1 := [.int v46.1, va_rf none]) hx hb hts hown hL hI hml hl.1 (fun z hz => mX16_init l D J z aK aV (H2.size) v46.1 none hz) (cwI 2 hts (lw_meth q1527) rfl rfl rfl (hts _ q169) (hts _ q1525) (hts _ q1526) rfl (by decide +kernel) ⟨(by show (1) + 1 ≤ 17; omega), (by show 8 + (3 + 11) + (40) ≤ 1700; omega)⟩) hn43N hn43 ⟨leC hu1, leC hu2⟩ rfl rfl (lv_room (Nat.le_of_ble_eq_true rfl)) dX1_onePart_26 (fun H48 locs48 hI hn43 hz9 hk => ?_)
    clear hk hz9
    obtain ⟨ho, -⟩ := prg_e hf
    exact hret H48 _ 29 _ _ _ _ _ _ hI (⟨hn43N, Or.inl ⟨v46.1, hn43, rfl⟩⟩) ho (leC hu1) (leC hu2) dX1_onePart_29
set_option maxHeartbeats 4000000 in
theorem mX1_sum (Λ : Nat → Nat → (Nat → Int32) → Int32) (Λn : Nat → Int32) (τ : Cs) (out : FcP) (T : Kc) (hf : X1_sum τ = some (out, T)) : PXo yX1_sum cX1_sum 2 (some (.object "LateInks$Sum")) (18) (1800) Λ Λn (fun o => [.ref o]) (fun D J G aF a (g : FcV) H => SumAt D J G aF a g H) out T τ := by
  refine PXo.of (by decide) (fun _ => Nat.le_of_ble_eq_true rfl) ?_
  intro p l e s m args below meth c D8 D J o z aK aV G Ld aF e0 mi N9 Q ls hst hx hb hml hown hts hL hret hxx hI hl
  have hEP := hL.1
  have hE := hEP.1
  obtain ⟨H, eH⟩ : ∃ H, H = s.heap := ⟨_, rfl⟩
  obtain ⟨locs, eL⟩ : ∃ L : List Loc, L = [] := ⟨_, rfl⟩
  rw [← eH, ← eL] at hI ⊢
  have hown : s.vm.findClass RX1 = some m.cls := hown
  have hu1 : 0 + T.1 = T.1 := Nat.zero_add _
  have hu2 : 0 + T.2 = T.2 := Nat.zero_add _
  have hl : lv_has ls 2 [(0, .ref o)] := hl
  unfold X1_sum at hf
  obtain ⟨C3, hf, eC1, eC2⟩ := addc_e hf
  replace eC1 : T.1 = 1 + C3.1 := eC1
  replace eC2 : T.2 = 1 + C3.2 := eC2
  have hn1N : N9 ≤ H.size := hI.le
  refine qnew (C := RX15) (T := TX15) (N := 1) (ci := 12) (fs := [.null]) hx hb hts in_X15 tyX15 tyX15_ok hown q1502 q1503 q168 hL hI rfl (fun j hj => match j, hj with
    | 0, _ => rfl) (show 0 + 1 ≤ T.1 by omega) (show 0 + 1 ≤ T.2 by omega) dX1_sum_0 (fun H2 hI hn1 hz1 hk => ?_)
  clear hk
  replace hu1 : (0 + 1) + C3.1 = T.1 := by omega
  replace hu2 : (0 + 1) + C3.2 = T.2 := by omega
  clear eC1 eC2
  refine lv_dup hx hb dX1_sum_3 rfl ?_
  obtain ⟨C5, hf, eC1, eC2⟩ := addc_e hf
  replace eC1 : C3.1 = 1 + C5.1 := eC1
  replace eC2 : C3.2 = 3 + C5.2 := eC2
  refine qinitLN (As := []) (rest := [.ref H.size]) (fs1 := [.ref (H2.size)]) (E := (fun i G a H => PartAt D G aF a ((fun _ _ => 0 : Nat → FcV) i) H)) hx hb hts hown hL hI hml hl.1 (fun z hz => mX15_init l D J z aK aV e0 (H.size) _ hz (by omega)) ⟨va_cnB 0 hts (lw_meth q1506) rfl rfl rfl (hE.1.2.2.m 7 rfl) (hts _ q168) (by decide +kernel) ⟨(by show (4) + 1 ≤ 18; omega), (by show 8 + (1 + 11) + (150) ≤ 1800; omega)⟩, rfl, hts _ q1505⟩ hn1N (by omega) hn1 ⟨(show (0 + 1) + 1 ≤ T.1 by omega), (show (0 + 1) + 3 ≤ T.2 by omega)⟩ rfl rfl (lv_room (Nat.le_of_ble_eq_true rfl)) dX1_sum_4 (fun H4 locs4 els hI hg => ?_)
  replace hu1 : ((0 + 1) + 1) + C5.1 = T.1 := by omega
  replace hu2 : ((0 + 1) + 3) + C5.2 = T.2 := by omega
  clear eC1 eC2
  refine lv_astore_n (lv' := [(1, .ref H.size), (0, .ref o)]) hx hb dX1_sum_7 rfl hl (by decide) rfl (fun ls hl => ?_)
  generalize H.size = a9 at hg hl
  generalize H2.size = lst9 at hg
  have loop : ∀ (k : Nat) (τ : Cs) (n cap : Nat) (gs : Nat → FcV) (C : Kc) (H : Heap) (locs : List Loc) (ls : Array Slot) (els : Nat → Nat) (M : Nat), X1_sumL k τ n cap gs = some (out, C) → ∀ (cu su : Nat), cu + C.1 = T.1 → su + C.2 = T.2 → IP D J o Ld N9 s H locs τ → GL D J N9 M e0 (fun i G a H => PartAt D G aF a (gs i) H) (a9, .inr (12, [.ref lst9])) lst9 n cap els H → lv_has ls 2 [(1, .ref a9), (0, .ref o)] → W p l e ({ frames := 18, cells := T.1, slots := T.2, locals := 1800 } : Room) s m args below meth c H locs cu su Q (F0 m 8 ls []) := by
    intro k
    induction k with
    | zero =>
      intro τ n cap gs C H locs ls els M hf
      cases hf
    | succ k ih =>
      intro τ n cap gs C H locs ls els M hf cu su hu1 hu2 hI hg hl
      unfold X1_sumL at hf
      replace hg := hg.bump
      refine lv_aload_n hx hb dX1_sum_8 rfl (lv_at hl 0 rfl) ?_
      refine ggetN hx hb hts in_X15 hown hE.1.1 hg.own9.2 rfl 0 (by decide) (hE.1.2.2.f 59 rfl) rfl dX1_sum_9 ?_
      refine lv_aload_n hx hb dX1_sum_12 rfl (lv_at hl 1 rfl) ?_
      obtain ⟨x106, K106, C106, ex106, hf, eC1, eC2⟩ := bnd_e hf
      have hle9 : N9 ≤ H.size := hI.le
      refine pcallO (rest := [.ref lst9]) hx hb hts hst hown hL hI hml hl.1 (mX1_onePart Λ Λn τ _ _ ex106) (cwV 0 hts (lw_V q1515 q1517 qs34 q133 q1518) rfl rfl rfl (by decide +kernel) ⟨(by show (17) + 1 ≤ 18; omega), (by show 8 + (2 + 11) + (1700) ≤ 1800; omega)⟩) (hI.1.o 0 rfl) rfl rfl ⟨(show cu + K106.1 ≤ T.1 by omega), (show su + K106.2 ≤ T.2 by omega)⟩ rfl rfl (lv_room (Nat.le_of_ble_eq_true rfl)) dX1_sum_13 (fun E ce q9 σ' H locs ho hn hI h1 h2 h3 => by subst ho; replace hf := selR hf; obtain ⟨ho, hK⟩ := prg_e hf; exact hxx H locs 13 _ _ _ _ E ce q9 _ hI ho hn h1 h2 h3 (show cu + K106.1 ≤ T.1 by omega) (show su + K106.2 ≤ T.2 by omega)) (fun a106 v106 H107 locs107 ho hI hG106 hz hk => ?_)
      subst ho
      replace hf := selL hf
      replace hk : Kp o H H107 := ⟨hz, hk⟩
      clear hz
      replace hu1 : (cu + K106.1) + C106.1 = T.1 := by omega
      replace hu2 : (su + K106.2) + C106.2 = T.2 := by omega
      clear eC1 eC2
      replace hg := hg.kept (ElOK.part gs) hI.2.2.2 hL.e0A.1 hk
      clear hk
      by_cases hcap9 : cap < 2 ^ 18
      · replace hf := ipos hcap9 hf
        obtain ⟨C108, hf, eC1, eC2⟩ := addc_e hf
        replace eC1 : C106.1 = acC n cap + C108.1 := eC1
        replace eC2 : C106.2 = acS n cap + C108.2 := eC2
        refine qadd (rest := []) (E := (fun i G a H => PartAt D G aF a (gs i) H)) (E' := (fun i G a H => PartAt D G aF a ((gup gs n v106.1) i) H)) hx hb hts hown hL hI hml hl.1 (ElOK.part gs) hg (v := a106) (by show PartAt D _ aF a106 (gup gs n v106.1 n) _; rw [gup_eq]; exact hG106) (ElOK.part _) hcap9 (fun i hi G a H h => by show PartAt D G aF a (gup gs n v106.1 i) H; rw [gup_lt hi]; exact h) (cwV 1 hts (lw_V q1551 q1552 q1553 q141 q1554) rfl rfl rfl (by decide +kernel) ⟨(by show (7) + 1 ≤ 18; omega), (by show 8 + (2 + 11) + (600) ≤ 1800; omega)⟩) ⟨(show (cu + K106.1) + acC n cap ≤ T.1 by omega), (show (su + K106.2) + acS n cap ≤ T.2 by omega)⟩ (lv_room (Nat.le_of_ble_eq_true rfl)) dX1_sum_16 (fun H109 locs109 hI hg => ?_)
        replace hu1 : ((cu + K106.1) + acC n cap) + C108.1 = T.1 := by omega
        replace hu2 : ((su + K106.2) + acS n cap) + C108.2 = T.2 := by omega
        clear eC1 eC2
        refine lv_pop hx hb dX1_sum_19 rfl ?_
        refine lv_aload_n hx hb dX1_sum_20 rfl (lv_at hl 1 rfl) ?_
        refine gget hx hb hts in_X1 hown hE.1.1 (hI.1.o 0 rfl) rfl 4 (by decide) q469 rfl dX1_sum_21 ?_
        refine lv_bipush (v := (43 : Int32)) hx hb dX1_sum_24 (by decide) ?_
        obtain ⟨x110, ex110, hf⟩ := obd hf
        refine qccallI (rest := []) hx hb hts hown hE hI hml hl.1 (mX3_sign Λ Λn v106.2 (43 : Int32) _ _ ex110) (cwV 1 hts (lw_V q1359 q1360 q1361 q136 q1362) rfl rfl rfl (by decide +kernel) ⟨(by show (3) + 1 ≤ 18; omega), (by show 8 + (2 + 11) + (81) ≤ 1800; omega)⟩) (hI.1.o 1 rfl) rfl rfl ⟨leC hu1, leC hu2⟩ rfl rfl (lv_room (Nat.le_of_ble_eq_true rfl)) dX1_sum_26 (fun H111 locs111 hI hk => ?_)
        replace hg := hg.kept (ElOK.part _) hI.2.2.2 hL.e0A.1 hk
        clear hk
        refine lv_if_ne (tgt := 8) hx hb dX1_sum_29 (by decide) (fun hc => ?_) (fun hc => ?_)
        · replace hf := ineg hc hf
          exact ih x110.2 (n + 1) (ncap n cap) (gup gs n v106.1) _ _ _ _ _ _ hf _ _ hu1 hu2 hI hg (lv_sub hl [0, 1] rfl)
        · replace hf := ipos hc hf
          refine lv_aload_n hx hb dX1_sum_32 rfl (lv_at hl 0 rfl) ?_
          obtain ⟨ho, -⟩ := prg_e hf
          exact hret H111 _ 33 _ _ _ _ _ _ hI (⟨hg.own9.1, lst9, n + 1, _, gup gs n v106.1, hg.own9.2, hg.done (by omega), hg.elsA (ElOK.part _), rfl⟩) ho (leC hu1) (leC hu2) dX1_sum_33
      · replace hf := ineg hcap9 hf
        cases hf
  exact loop FU τ 0 0 _ _ _ _ _ els _ hf _ _ hu1 hu2 hI hg (lv_sub hl [0, 1] rfl)
set_option maxHeartbeats 4000000 in
theorem mX1_allOf (Λ : Nat → Nat → (Nat → Int32) → Int32) (Λn : Nat → Int32) (f : Cs → Option (FcP × Kc)) (d fr lo : Nat) (hfr : 20 ≤ fr) (hlo : 2000 ≤ lo) (hA : ∀ (τ : Cs) (out : FcP) (T : Kc), f τ = some (out, T) → PXo yX1_atom cX1_atom 3 (some (.object "LateInks$Cond")) fr lo Λ Λn (fun o => [.ref o]) (fun D J G aF a (g : FcV) H => CondAt D J G aF (d + 1) a g H) out T τ) (τ : Cs) (out : FcP) (T : Kc) (hf : X1_row f 26 1 τ = some (out, T)) : PXo yX1_allOf cX1_allOf 2 (some (.object "LateInks$Cond")) (fr + 1) (lo + 100) Λ Λn (fun o => [.ref o]) (fun D J G aF a (g : FcV) H => CondAt D J G aF (d + 2) a g H) out T τ := by
  refine PXo.of (by decide) (fun _ => Nat.le_of_ble_eq_true rfl) ?_
  intro p l e s m args below meth c D8 D J o z aK aV G Ld aF e0 mi N9 Q ls hst hx hb hml hown hts hL hret hxx hI hl
  have hEP := hL.1
  have hE := hEP.1
  obtain ⟨H, eH⟩ : ∃ H, H = s.heap := ⟨_, rfl⟩
  obtain ⟨locs, eL⟩ : ∃ L : List Loc, L = [] := ⟨_, rfl⟩
  rw [← eH, ← eL] at hI ⊢
  have hown : s.vm.findClass RX1 = some m.cls := hown
  have hu1 : 0 + T.1 = T.1 := Nat.zero_add _
  have hu2 : 0 + T.2 = T.2 := Nat.zero_add _
  have hl : lv_has ls 2 [(0, .ref o)] := hl
  unfold X1_row at hf
  obtain ⟨C3, hf, eC1, eC2⟩ := addc_e hf
  replace eC1 : T.1 = 1 + C3.1 := eC1
  replace eC2 : T.2 = 2 + C3.2 := eC2
  have hn1N : N9 ≤ H.size := hI.le
  refine qnew (C := RX12) (T := TX12) (N := 2) (ci := 9) (fs := [.int 0, .null]) hx hb hts in_X12 tyX12 tyX12_ok hown q1443 q1444 q165 hL hI rfl (fun j hj => match j, hj with
    | 0, _ => rfl
    | 1, _ => rfl) (show 0 + 1 ≤ T.1 by omega) (show 0 + 2 ≤ T.2 by omega) dX1_allOf_0 (fun H2 hI hn1 hz1 hk => ?_)
  clear hk
  replace hu1 : (0 + 1) + C3.1 = T.1 := by omega
  replace hu2 : (0 + 2) + C3.2 = T.2 := by omega
  clear eC1 eC2
  refine lv_dup hx hb dX1_allOf_3 rfl ?_
  refine lv_iconst (v := (1 : Int32)) hx hb dX1_allOf_4 (by decide) ?_
  obtain ⟨C5, hf, eC1, eC2⟩ := addc_e hf
  replace eC1 : C3.1 = 1 + C5.1 := eC1
  replace eC2 : C3.2 = 3 + C5.2 := eC2
  refine qinitL (As := [.int 1]) (rest := [.ref H.size]) (fs1 := [.int 1, .ref (H2.size)]) (E := (fun i G a H => CondAt D J G aF (d + 1) a ((fun _ _ => 0 : Nat → FcV) i) H)) hx hb hts hown hL hI hml hl.1 (fun z hz => mX12_init l D J z aK aV e0 (H.size) _ 1 hz (by omega) (by decide)) (cwI 1 hts (lw_meth q1447) rfl rfl rfl (hts _ q165) (hts _ q1445) (hts _ q1446) rfl (by decide +kernel) ⟨(by show (4) + 1 ≤ fr + 1; omega), (by show 8 + (2 + 11) + (150) ≤ lo + 100; omega)⟩) hn1N (by omega) hn1 ⟨(show (0 + 1) + 1 ≤ T.1 by omega), (show (0 + 2) + 3 ≤ T.2 by omega)⟩ rfl rfl (lv_room (Nat.le_of_ble_eq_true rfl)) dX1_allOf_5 (fun H4 locs4 els hI hg => ?_)
  replace hu1 : ((0 + 1) + 1) + C5.1 = T.1 := by omega
  replace hu2 : ((0 + 2) + 3) + C5.2 = T.2 := by omega
  clear eC1 eC2
  refine lv_astore_n (lv' := [(1, .ref H.size), (0, .ref o)]) hx hb dX1_allOf_8 rfl hl (by decide) rfl (fun ls hl => ?_)
  generalize H.size = a9 at hg hl
  generalize H2.size = lst9 at hg
  have loop : ∀ (k : Nat) (τ : Cs) (n cap : Nat) (gs : Nat → FcV) (C : Kc) (H : Heap) (locs : List Loc) (ls : Array Slot) (els : Nat → Nat) (M : Nat), rowL f 26 1 k τ n cap gs = some (out, C) → ∀ (cu su : Nat), cu + C.1 = T.1 → su + C.2 = T.2 → IP D J o Ld N9 s H locs τ → GL D J N9 M e0 (fun i G a H => CondAt D J G aF (d + 1) a (gs i) H) (a9, .inr (9, [.int 1, .ref lst9])) lst9 n cap els H → lv_has ls 2 [(1, .ref a9), (0, .ref o)] → W p l e ({ frames := fr + 1, cells := T.1, slots := T.2, locals := lo + 100 } : Room) s m args below meth c H locs cu su Q (F0 m 9 ls []) := by
    intro k
    induction k with
    | zero =>
      intro τ n cap gs C H locs ls els M hf
      cases hf
    | succ k ih =>
      intro τ n cap gs C H locs ls els M hf cu su hu1 hu2 hI hg hl
      unfold rowL at hf
      replace hg := hg.bump
      refine lv_aload_n hx hb dX1_allOf_9 rfl (lv_at hl 0 rfl) ?_
      refine ggetN hx hb hts in_X12 hown hE.1.1 hg.own9.2 rfl 1 (by decide) (hE.1.2.2.f 58 rfl) rfl dX1_allOf_10 ?_
      refine lv_aload_n hx hb dX1_allOf_13 rfl (lv_at hl 1 rfl) ?_
      obtain ⟨x106, K106, C106, ex106, hf, eC1, eC2⟩ := bnd_e hf
      have hle9 : N9 ≤ H.size := hI.le
      refine pcallO (rest := [.ref lst9]) hx hb hts hst hown hL hI hml hl.1 (hA τ _ _ ex106) (cwV 0 hts (lw_V q1463 q1465 qs32 q133 q1466) rfl rfl rfl (by decide +kernel) ⟨(by show (fr) + 1 ≤ fr + 1; omega), (by show 8 + (3 + 11) + (lo) ≤ lo + 100; omega)⟩) (hI.1.o 0 rfl) rfl rfl ⟨(show cu + K106.1 ≤ T.1 by omega), (show su + K106.2 ≤ T.2 by omega)⟩ rfl rfl (lv_room (Nat.le_of_ble_eq_true rfl)) dX1_allOf_14 (fun E ce q9 σ' H locs ho hn hI h1 h2 h3 => by subst ho; replace hf := selR hf; obtain ⟨ho, hK⟩ := prg_e hf; exact hxx H locs 14 _ _ _ _ E ce q9 _ hI ho hn h1 h2 h3 (show cu + K106.1 ≤ T.1 by omega) (show su + K106.2 ≤ T.2 by omega)) (fun a106 v106 H107 locs107 ho hI hG106 hz hk => ?_)
      subst ho
      replace hf := selL hf
      replace hk : Kp o H H107 := ⟨hz, hk⟩
      clear hz
      replace hu1 : (cu + K106.1) + C106.1 = T.1 := by omega
      replace hu2 : (su + K106.2) + C106.2 = T.2 := by omega
      clear eC1 eC2
      replace hg := hg.kept (ElOK.cond d gs) hI.2.2.2 hL.e0A.1 hk
      clear hk
      by_cases hcap9 : cap < 2 ^ 18
      · replace hf := ipos hcap9 hf
        obtain ⟨C108, hf, eC1, eC2⟩ := addc_e hf
        replace eC1 : C106.1 = acC n cap + C108.1 := eC1
        replace eC2 : C106.2 = acS n cap + C108.2 := eC2
        refine qadd (rest := []) (E := (fun i G a H => CondAt D J G aF (d + 1) a (gs i) H)) (E' := (fun i G a H => CondAt D J G aF (d + 1) a ((gup gs n v106.1) i) H)) hx hb hts hown hL hI hml hl.1 (ElOK.cond d gs) hg (v := a106) (by show CondAt D J _ aF (d + 1) a106 (gup gs n v106.1 n) _; rw [gup_eq]; exact hG106) (ElOK.cond d _) hcap9 (fun i hi G a H h => by show CondAt D J G aF (d + 1) a (gup gs n v106.1 i) H; rw [gup_lt hi]; exact h) (cwV 1 hts (lw_V q1551 q1552 q1553 q141 q1554) rfl rfl rfl (by decide +kernel) ⟨(by show (7) + 1 ≤ fr + 1; omega), (by show 8 + (2 + 11) + (600) ≤ lo + 100; omega)⟩) ⟨(show (cu + K106.1) + acC n cap ≤ T.1 by omega), (show (su + K106.2) + acS n cap ≤ T.2 by omega)⟩ (lv_room (Nat.le_of_ble_eq_true rfl)) dX1_allOf_17 (fun H109 locs109 hI hg => ?_)
        replace hu1 : ((cu + K106.1) + acC n cap) + C108.1 = T.1 := by omega
        replace hu2 : ((su + K106.2) + acS n cap) + C108.2 = T.2 := by omega
        clear eC1 eC2
        refine lv_pop hx hb dX1_allOf_20 rfl ?_
        refine lv_aload_n hx hb dX1_allOf_21 rfl (lv_at hl 1 rfl) ?_
        refine gget hx hb hts in_X1 hown hE.1.1 (hI.1.o 0 rfl) rfl 4 (by decide) q469 rfl dX1_allOf_22 ?_
        refine va_ldcSw hx hb hown (hE.1.2.1.at 26 rfl) dX1_allOf_25 ?_
        obtain ⟨x110, K110, C110, ex110, hf, eC1, eC2⟩ := bnd_e hf
        refine qpcallI (rest := []) hx hb hts hst hown hEP hI hml hl.1 (mX3_passes Λ Λn v106.2 26 (by decide) _ _ ex110) (cwV 1 hts (lw_V q1326 q1327 q1328 q136 q1329) rfl rfl rfl (by decide +kernel) ⟨(by show (15) + 1 ≤ fr + 1; omega), (by show 8 + (2 + 11) + (1522) ≤ lo + 100; omega)⟩) (hI.1.o 1 rfl) rfl rfl ⟨(show ((cu + K106.1) + acC n cap) + K110.1 ≤ T.1 by omega), (show ((su + K106.2) + acS n cap) + K110.2 ≤ T.2 by omega)⟩ rfl rfl (lv_room (Nat.le_of_ble_eq_true rfl)) dX1_allOf_28 (fun E ce q9 σ' H locs ho hn hI h1 h2 h3 => by subst ho; replace hf := selR hf; obtain ⟨ho, hK⟩ := prg_e hf; exact hxx H locs 28 _ _ _ _ E ce q9 _ hI ho hn h1 h2 h3 (show ((cu + K106.1) + acC n cap) + K110.1 ≤ T.1 by omega) (show ((su + K106.2) + acS n cap) + K110.2 ≤ T.2 by omega)) (fun v110 H111 locs111 ho hI hk => ?_)
        subst ho
        replace hf := selL hf
        replace hu1 : (((cu + K106.1) + acC n cap) + K110.1) + C110.1 = T.1 := by omega
        replace hu2 : (((su + K106.2) + acS n cap) + K110.2) + C110.2 = T.2 := by omega
        clear eC1 eC2
        replace hg := hg.kept (ElOK.cond d _) hI.2.2.2 hL.e0A.1 hk
        clear hk
        refine lv_if_ne (tgt := 9) hx hb dX1_allOf_31 (by decide) (fun hc => ?_) (fun hc => ?_)
        · replace hf := ineg hc hf
          exact ih v110.2 (n + 1) (ncap n cap) (gup gs n v106.1) _ _ _ _ _ _ hf _ _ hu1 hu2 hI hg (lv_sub hl [0, 1] rfl)
        · replace hf := ipos hc hf
          refine lv_aload_n hx hb dX1_allOf_34 rfl (lv_at hl 0 rfl) ?_
          obtain ⟨ho, -⟩ := prg_e hf
          exact hret H111 _ 35 _ _ _ _ _ _ hI (⟨hg.own9.1, Or.inr (Or.inr (Or.inr ⟨1, lst9, n + 1, _, gup gs n v106.1, by decide, hg.own9.2, hg.done (by omega), hg.elsA (ElOK.cond d _), rfl⟩))⟩) ho (leC hu1) (leC hu2) dX1_allOf_35
      · replace hf := ineg hcap9 hf
        cases hf
  exact loop FU τ 0 0 _ _ _ _ _ els _ hf _ _ hu1 hu2 hI hg (lv_sub hl [0, 1] rfl)
set_option maxHeartbeats 4000000 in
theorem mX1_cond (Λ : Nat → Nat → (Nat → Int32) → Int32) (Λn : Nat → Int32) (f : Cs → Option (FcP × Kc)) (d fr lo : Nat) (hfr : 20 ≤ fr) (hlo : 2000 ≤ lo) (hA : ∀ (τ : Cs) (out : FcP) (T : Kc), f τ = some (out, T) → PXo yX1_allOf cX1_allOf 2 (some (.object "LateInks$Cond")) fr lo Λ Λn (fun o => [.ref o]) (fun D J G aF a (g : FcV) H => CondAt D J G aF (d + 1) a g H) out T τ) (τ : Cs) (out : FcP) (T : Kc) (hf : X1_row f 27 0 τ = some (out, T)) : PXo yX1_cond cX1_cond 2 (some (.object "LateInks$Cond")) (fr + 1) (lo + 100) Λ Λn (fun o => [.ref o]) (fun D J G aF a (g : FcV) H => CondAt D J G aF (d + 2) a g H) out T τ := by
  refine PXo.of (by decide) (fun _ => Nat.le_of_ble_eq_true rfl) ?_
  intro p l e s m args below meth c D8 D J o z aK aV G Ld aF e0 mi N9 Q ls hst hx hb hml hown hts hL hret hxx hI hl
  have hEP := hL.1
  have hE := hEP.1
  obtain ⟨H, eH⟩ : ∃ H, H = s.heap := ⟨_, rfl⟩
  obtain ⟨locs, eL⟩ : ∃ L : List Loc, L = [] := ⟨_, rfl⟩
  rw [← eH, ← eL] at hI ⊢
  have hown : s.vm.findClass RX1 = some m.cls := hown
  have hu1 : 0 + T.1 = T.1 := Nat.zero_add _
  have hu2 : 0 + T.2 = T.2 := Nat.zero_add _
  have hl : lv_has ls 2 [(0, .ref o)] := hl
  unfold X1_row at hf
  obtain ⟨C3, hf, eC1, eC2⟩ := addc_e hf
  replace eC1 : T.1 = 1 + C3.1 := eC1
  replace eC2 : T.2 = 2 + C3.2 := eC2
  have hn1N : N9 ≤ H.size := hI.le
  refine qnew (C := RX12) (T := TX12) (N := 2) (ci := 9) (fs := [.int 0, .null]) hx hb hts in_X12 tyX12 tyX12_ok hown q1443 q1444 q165 hL hI rfl (fun j hj => match j, hj with
    | 0, _ => rfl
    | 1, _ => rfl) (show 0 + 1 ≤ T.1 by omega) (show 0 + 2 ≤ T.2 by omega) dX1_cond_0 (fun H2 hI hn1 hz1 hk => ?_)
  clear hk
  replace hu1 : (0 + 1) + C3.1 = T.1 := by omega
  replace hu2 : (0 + 2) + C3.2 = T.2 := by omega
  clear eC1 eC2
  refine lv_dup hx hb dX1_cond_3 rfl ?_
  refine lv_iconst (v := (0 : Int32)) hx hb dX1_cond_4 (by decide) ?_
  obtain ⟨C5, hf, eC1, eC2⟩ := addc_e hf
  replace eC1 : C3.1 = 1 + C5.1 := eC1
  replace eC2 : C3.2 = 3 + C5.2 := eC2
  refine qinitL (As := [.int 0]) (rest := [.ref H.size]) (fs1 := [.int 0, .ref (H2.size)]) (E := (fun i G a H => CondAt D J G aF (d + 1) a ((fun _ _ => 0 : Nat → FcV) i) H)) hx hb hts hown hL hI hml hl.1 (fun z hz => mX12_init l D J z aK aV e0 (H.size) _ 0 hz (by omega) (by decide)) (cwI 1 hts (lw_meth q1447) rfl rfl rfl (hts _ q165) (hts _ q1445) (hts _ q1446) rfl (by decide +kernel) ⟨(by show (4) + 1 ≤ fr + 1; omega), (by show 8 + (2 + 11) + (150) ≤ lo + 100; omega)⟩) hn1N (by omega) hn1 ⟨(show (0 + 1) + 1 ≤ T.1 by omega), (show (0 + 2) + 3 ≤ T.2 by omega)⟩ rfl rfl (lv_room (Nat.le_of_ble_eq_true rfl)) dX1_cond_5 (fun H4 locs4 els hI hg => ?_)
  replace hu1 : ((0 + 1) + 1) + C5.1 = T.1 := by omega
  replace hu2 : ((0 + 2) + 3) + C5.2 = T.2 := by omega
  clear eC1 eC2
  refine lv_astore_n (lv' := [(1, .ref H.size), (0, .ref o)]) hx hb dX1_cond_8 rfl hl (by decide) rfl (fun ls hl => ?_)
  generalize H.size = a9 at hg hl
  generalize H2.size = lst9 at hg
  have loop : ∀ (k : Nat) (τ : Cs) (n cap : Nat) (gs : Nat → FcV) (C : Kc) (H : Heap) (locs : List Loc) (ls : Array Slot) (els : Nat → Nat) (M : Nat), rowL f 27 0 k τ n cap gs = some (out, C) → ∀ (cu su : Nat), cu + C.1 = T.1 → su + C.2 = T.2 → IP D J o Ld N9 s H locs τ → GL D J N9 M e0 (fun i G a H => CondAt D J G aF (d + 1) a (gs i) H) (a9, .inr (9, [.int 0, .ref lst9])) lst9 n cap els H → lv_has ls 2 [(1, .ref a9), (0, .ref o)] → W p l e ({ frames := fr + 1, cells := T.1, slots := T.2, locals := lo + 100 } : Room) s m args below meth c H locs cu su Q (F0 m 9 ls []) := by
    intro k
    induction k with
    | zero =>
      intro τ n cap gs C H locs ls els M hf
      cases hf
    | succ k ih =>
      intro τ n cap gs C H locs ls els M hf cu su hu1 hu2 hI hg hl
      unfold rowL at hf
      replace hg := hg.bump
      refine lv_aload_n hx hb dX1_cond_9 rfl (lv_at hl 0 rfl) ?_
      refine ggetN hx hb hts in_X12 hown hE.1.1 hg.own9.2 rfl 1 (by decide) (hE.1.2.2.f 58 rfl) rfl dX1_cond_10 ?_
      refine lv_aload_n hx hb dX1_cond_13 rfl (lv_at hl 1 rfl) ?_
      obtain ⟨x106, K106, C106, ex106, hf, eC1, eC2⟩ := bnd_e hf
      have hle9 : N9 ≤ H.size := hI.le
      refine pcallO (rest := [.ref lst9]) hx hb hts hst hown hL hI hml hl.1 (hA τ _ _ ex106) (cwV 0 hts (lw_V q1459 q1461 qs31 q133 q1462) rfl rfl rfl (by decide +kernel) ⟨(by show (fr) + 1 ≤ fr + 1; omega), (by show 8 + (2 + 11) + (lo) ≤ lo + 100; omega)⟩) (hI.1.o 0 rfl) rfl rfl ⟨(show cu + K106.1 ≤ T.1 by omega), (show su + K106.2 ≤ T.2 by omega)⟩ rfl rfl (lv_room (Nat.le_of_ble_eq_true rfl)) dX1_cond_14 (fun E ce q9 σ' H locs ho hn hI h1 h2 h3 => by subst ho; replace hf := selR hf; obtain ⟨ho, hK⟩ := prg_e hf; exact hxx H locs 14 _ _ _ _ E ce q9 _ hI ho hn h1 h2 h3 (show cu + K106.1 ≤ T.1 by omega) (show su + K106.2 ≤ T.2 by omega)) (fun a106 v106 H107 locs107 ho hI hG106 hz hk => ?_)
      subst ho
      replace hf := selL hf
      replace hk : Kp o H H107 := ⟨hz, hk⟩
      clear hz
      replace hu1 : (cu + K106.1) + C106.1 = T.1 := by omega
      replace hu2 : (su + K106.2) + C106.2 = T.2 := by omega
      clear eC1 eC2
      replace hg := hg.kept (ElOK.cond d gs) hI.2.2.2 hL.e0A.1 hk
      clear hk
      by_cases hcap9 : cap < 2 ^ 18
      · replace hf := ipos hcap9 hf
        obtain ⟨C108, hf, eC1, eC2⟩ := addc_e hf
        replace eC1 : C106.1 = acC n cap + C108.1 := eC1
        replace eC2 : C106.2 = acS n cap + C108.2 := eC2
        refine qadd (rest := []) (E := (fun i G a H => CondAt D J G aF (d + 1) a (gs i) H)) (E' := (fun i G a H => CondAt D J G aF (d + 1) a ((gup gs n v106.1) i) H)) hx hb hts hown hL hI hml hl.1 (ElOK.cond d gs) hg (v := a106) (by show CondAt D J _ aF (d + 1) a106 (gup gs n v106.1 n) _; rw [gup_eq]; exact hG106) (ElOK.cond d _) hcap9 (fun i hi G a H h => by show CondAt D J G aF (d + 1) a (gup gs n v106.1 i) H; rw [gup_lt hi]; exact h) (cwV 1 hts (lw_V q1551 q1552 q1553 q141 q1554) rfl rfl rfl (by decide +kernel) ⟨(by show (7) + 1 ≤ fr + 1; omega), (by show 8 + (2 + 11) + (600) ≤ lo + 100; omega)⟩) ⟨(show (cu + K106.1) + acC n cap ≤ T.1 by omega), (show (su + K106.2) + acS n cap ≤ T.2 by omega)⟩ (lv_room (Nat.le_of_ble_eq_true rfl)) dX1_cond_17 (fun H109 locs109 hI hg => ?_)
        replace hu1 : ((cu + K106.1) + acC n cap) + C108.1 = T.1 := by omega
        replace hu2 : ((su + K106.2) + acS n cap) + C108.2 = T.2 := by omega
        clear eC1 eC2
        refine lv_pop hx hb dX1_cond_20 rfl ?_
        refine lv_aload_n hx hb dX1_cond_21 rfl (lv_at hl 1 rfl) ?_
        refine gget hx hb hts in_X1 hown hE.1.1 (hI.1.o 0 rfl) rfl 4 (by decide) q469 rfl dX1_cond_22 ?_
        refine va_ldcSw hx hb hown (hE.1.2.1.at 27 rfl) dX1_cond_25 ?_
        obtain ⟨x110, K110, C110, ex110, hf, eC1, eC2⟩ := bnd_e hf
        refine qpcallI (rest := []) hx hb hts hst hown hEP hI hml hl.1 (mX3_passes Λ Λn v106.2 27 (by decide) _ _ ex110) (cwV 1 hts (lw_V q1326 q1327 q1328 q136 q1329) rfl rfl rfl (by decide +kernel) ⟨(by show (15) + 1 ≤ fr + 1; omega), (by show 8 + (2 + 11) + (1522) ≤ lo + 100; omega)⟩) (hI.1.o 1 rfl) rfl rfl ⟨(show ((cu + K106.1) + acC n cap) + K110.1 ≤ T.1 by omega), (show ((su + K106.2) + acS n cap) + K110.2 ≤ T.2 by omega)⟩ rfl rfl (lv_room (Nat.le_of_ble_eq_true rfl)) dX1_cond_28 (fun E ce q9 σ' H locs ho hn hI h1 h2 h3 => by subst ho; replace hf := selR hf; obtain ⟨ho, hK⟩ := prg_e hf; exact hxx H locs 28 _ _ _ _ E ce q9 _ hI ho hn h1 h2 h3 (show ((cu + K106.1) + acC n cap) + K110.1 ≤ T.1 by omega) (show ((su + K106.2) + acS n cap) + K110.2 ≤ T.2 by omega)) (fun v110 H111 locs111 ho hI hk => ?_)
        subst ho
        replace hf := selL hf
        replace hu1 : (((cu + K106.1) + acC n cap) + K110.1) + C110.1 = T.1 := by omega
        replace hu2 : (((su + K106.2) + acS n cap) + K110.2) + C110.2 = T.2 := by omega
        clear eC1 eC2
        replace hg := hg.kept (ElOK.cond d _) hI.2.2.2 hL.e0A.1 hk
        clear hk
        refine lv_if_ne (tgt := 9) hx hb dX1_cond_31 (by decide) (fun hc => ?_) (fun hc => ?_)
        · replace hf := ineg hc hf
          exact ih v110.2 (n + 1) (ncap n cap) (gup gs n v106.1) _ _ _ _ _ _ hf _ _ hu1 hu2 hI hg (lv_sub hl [0, 1] rfl)
        · replace hf := ipos hc hf
          refine lv_aload_n hx hb dX1_cond_34 rfl (lv_at hl 0 rfl) ?_
          obtain ⟨ho, -⟩ := prg_e hf
          exact hret H111 _ 35 _ _ _ _ _ _ hI (⟨hg.own9.1, Or.inr (Or.inr (Or.inr ⟨0, lst9, n + 1, _, gup gs n v106.1, by decide, hg.own9.2, hg.done (by omega), hg.elsA (ElOK.cond d _), rfl⟩))⟩) ho (leC hu1) (leC hu2) dX1_cond_35
      · replace hf := ineg hcap9 hf
        cases hf
  exact loop FU τ 0 0 _ _ _ _ _ els _ hf _ _ hu1 hu2 hI hg (lv_sub hl [0, 1] rfl)
