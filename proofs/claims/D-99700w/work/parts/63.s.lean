set_option maxRecDepth 100000
theorem pry_e {a out : Xo} {K C : Kc} (h : some (a, K) = some (out, C)) : out = a ∧ C = K := by
  cases h
  exact ⟨rfl, rfl⟩

theorem thr4_X1 {z : Nat} {s : State} {args : Array Value} (hts : ∀ w ∈ lw_all, w.before args s = true) (hT : ThrE z s) : ∀ w ∈ vx_at0 RX1 254 "java/lang/UnsupportedOperationException" ["java/lang/RuntimeException", "java/lang/Exception"], w.before args s = true := by
  intro w hw
  obtain ⟨hw, hno⟩ := List.mem_filter.mp hw
  unfold Bundle.ownAtoms0 at hw
  rcases List.mem_append.mp hw with hw | hw
  · rcases List.mem_append.mp hw with hw | hw
    · exact thrA hts hT w hw hno
    · rcases List.mem_append.mp hw with hw | hw
      · exact pas4 hts hT w hw hno
      · rcases List.mem_append.mp hw with hw | hw
        · exact pasRE hts hT w hw hno
        · exact pasEX hts hT w hw hno
  · simp only [List.mem_cons, List.not_mem_nil, or_false] at hw
    rcases hw with rfl | rfl | rfl | rfl | rfl | rfl | rfl | rfl | rfl | rfl | rfl | rfl | rfl | rfl
    · exact hts _ q1387
    · exact hts _ q1379
    · exact va_Nw.use rfl (hT.2.1 4 _ rfl)
    · exact hts _ q1381
    · exact hts _ q1060
    · exact hts _ q1382
    · exact hts _ q1383
    · exact hts _ q1384
    · exact hts _ q1385
    · exact absurd hno (by decide +kernel)
    · exact absurd hno (by decide +kernel)
    · exact hts _ q1044
    · exact hts _ q1043
    · exact hts _ q1386
theorem cwX3_begins_X1 {R : Room} {s : State} {args : Array Value} {fr lo : Nat} (hts : ∀ w ∈ lw_all, w.before args s = true) (hR : fr + 1 ≤ R.frames ∧ 8 + (1 + 11) + lo ≤ R.locals) : CallW R s args RX1 RX3 234 yX3_begins cX3_begins 1 (none) (ws_ yX3_begins cX3_begins 1 (none)) ({ frames := fr, cells := 0, slots := 0, locals := lo }) 0 0 0 :=
  cwV 0 hts (lw_V q838 q839 q840 q136 q841) rfl rfl rfl (by decide +kernel) hR
theorem cwX1_portText_X1 {R : Room} {s : State} {args : Array Value} {fr lo mc ms : Nat} (hts : ∀ w ∈ lw_all, w.before args s = true) (hR : fr + 1 ≤ R.frames ∧ 8 + (3 + 11) + lo ≤ R.locals) : CallW R s args RX1 RX1 241 yX1_portText cX1_portText 3 (none) (ws_ yX1_portText cX1_portText 3 (none)) ({ frames := fr, cells := mc, slots := ms, locals := lo }) mc ms 1 :=
  cwV 1 hts (lw_V q842 q844 qs15 q133 q845) rfl rfl rfl (by decide +kernel) hR
theorem cwX1_fails_X1 {R : Room} {s : State} {args : Array Value} {fr lo : Nat} (hts : ∀ w ∈ lw_all, w.before args s = true) (hR : fr + 1 ≤ R.frames ∧ 8 + (1 + 11) + lo ≤ R.locals) : CallW R s args RX1 RX1 246 yX1_fails cX1_fails 1 (none) (ws_ yX1_fails cX1_fails 1 (none)) ({ frames := fr, cells := 1, slots := 6, locals := lo }) 1 6 0 :=
  cwV 0 hts (lw_V q1363 q1365 qs27 q133 q1366) rfl rfl rfl (by decide +kernel) hR
def X1_port (τ : Cs) : Option (Xo × Kc) :=
  (X3_begins τ).bind fun t4 =>
  (some (uk τ t4)).bind fun k4 =>
  (clk k4 1 0).bind fun t15 =>
  (X1_portText t15 1).bind fun x24 => addc x24.2 (Sum.elim (fun (v24 : Int32 × Cs) =>
  (some (uk t15 v24.2)).bind fun k24 =>
    (some (cou k24 (mup (co k24) 1 5 (-1 : Int32)))).bind fun t32 =>
    if (cw t32 0 0 0) = (12 : Int32) then
      some (.inr (4, t32), (1, 6))
    else
      (some (cwu t32 1 (mup (cw t32 1) 0 0 ((cw t32 1 0 0) + (1 : Int32))))).bind fun t73 =>
      (clk t73 0 1).bind fun t84 =>
      (some (nuU t84 0)).bind fun t92 =>
      some (.inl ((cw t92 0 0 0), t92), (0, 0))) (fun (u : Cs) => (X1_fails (uk t15 u)).bind fun y24 => Sum.elim (fun (_ : Int32 × Cs) => none) (fun (q : Nat × Cs) => some (.inr (q.1, uk (uk t15 u) q.2), (1, 6))) y24) x24.1)
set_option maxHeartbeats 4000000 in
theorem mX1_port (Λ : Nat → Nat → (Nat → Int32) → Int32) (Λn : Nat → Int32) (τ : Cs) (out : Xo) (T : Kc) (hf : X1_port τ = some (out, T)) : PYi yX1_port cX1_port 2 (some .int) [((19 : Nat), (35 : Nat), (38 : Nat), (244 : Nat))] 80 6000 Λ Λn (fun o aK aF => [.ref o]) out T τ := by
  refine PYi.of (by decide) (fun _ _ _ => Nat.le_of_ble_eq_true rfl) ?_
  intro p l e s m args below meth c D8 D J o z aK aV G Ld aF e0 mi Ur N Q ls hst hx hb hml hown hts hE hT hEU hSb hW8 htab hret hxx hthr hI hl
  obtain ⟨H, eH⟩ : ∃ H, H = s.heap := ⟨_, rfl⟩
  obtain ⟨locs, eL⟩ : ∃ L : List Loc, L = [] := ⟨_, rfl⟩
  rw [← eH, ← eL] at hI ⊢
  have hown : s.vm.findClass RX1 = some m.cls := hown
  have hu1 : 0 + T.1 = T.1 := Nat.zero_add _
  have hu2 : 0 + T.2 = T.2 := Nat.zero_add _
  have hl : lv_has ls 2 [(0, .ref o)] := hl
  unfold X1_port at hf
  refine lv_aload_n hx hb dX1_port_0 rfl (lv_at hl 0 rfl) ?_
  refine gget hx hb hts in_X1 hown hE.1.1 (hI.1.o 0 rfl) rfl 4 (by decide) q469 rfl dX1_port_1 ?_
  obtain ⟨t4, et4, hf⟩ := obd hf
  refine uccallV (rest := []) hx hb hts hown hE hI hml hl.1 (mX3_begins Λ Λn τ _ et4) (cwX3_begins_X1 hts ⟨Nat.le_of_ble_eq_true rfl, Nat.le_of_ble_eq_true rfl⟩) (hI.1.o 1 rfl) rfl rfl ⟨leC hu1, leC hu2⟩ rfl rfl (lv_room (Nat.le_of_ble_eq_true rfl)) dX1_port_4 (fun H locs hI => ?_)
  obtain ⟨k4, ek4, hf⟩ := obd hf
  rw [Option.some.inj ek4] at hI
  refine lv_aload_n hx hb dX1_port_7 rfl (lv_at hl 0 rfl) ?_
  refine gget hx hb hts in_X1 hown hE.1.1 (hI.1.o 0 rfl) rfl 1 (by decide) q466 rfl dX1_port_8 ?_
  refine lv_aload_n hx hb dX1_port_11 rfl (lv_at hl 0 rfl) ?_
  refine gget hx hb hts in_X1 hown hE.1.1 (hI.1.o 0 rfl) rfl 0 (by decide) q463 rfl dX1_port_12 ?_
  obtain ⟨t15, et15, hf⟩ := obd hf
  refine uclikens (rest := []) hx hb hts hown hE hI hml hl.1 (by decide) (by decide) (by decide) et15 ⟨Nat.le_of_ble_eq_true rfl, Nat.le_of_ble_eq_true rfl⟩ ⟨leC hu1, leC hu2⟩ (lv_room (Nat.le_of_ble_eq_true rfl)) dX1_port_15 (fun H locs hI => ?_)
  refine lv_pop hx hb dX1_port_18 rfl ?_
  refine lv_aload_n hx hb dX1_port_19 rfl (lv_at hl 0 rfl) ?_
  refine lv_aload_n hx hb dX1_port_20 rfl (lv_at hl 0 rfl) ?_
  refine gget hx hb hts in_X1 hown hE.1.1 (hI.1.o 0 rfl) rfl 1 (by decide) q466 rfl dX1_port_21 ?_
  obtain ⟨x24, K24, C24, ex24, hf, eC1, eC2⟩ := pcl_e hf
  refine upcallV (rest := []) hx hb hts hst hown hE hSb hW8 hI hml hl.1 (mX1_portText Λ Λn t15 1 (by decide) _ _ ex24) (cwX1_portText_X1 hts ⟨Nat.le_of_ble_eq_true rfl, Nat.le_of_ble_eq_true rfl⟩) (hI.1.o 0 rfl) rfl rfl ⟨(show 0 + K24.1 ≤ T.1 by omega), (show 0 + K24.2 ≤ T.2 by omega)⟩ rfl rfl (lv_room (Nat.le_of_ble_eq_true rfl)) dX1_port_24 (fun E ce q9 σ' H locs ho hn hI h1 h2 h3 => ?_) (fun v24 H locs ho hI => ?_)
  · subst ho
    replace hf := selR hf
    obtain ⟨cu24, ecu24⟩ : ∃ n, n = 0 + K24.1 := ⟨_, rfl⟩
    obtain ⟨su24, esu24⟩ : ∃ n, n = 0 + K24.2 := ⟨_, rfl⟩
    rw [← ecu24, ← esu24]
    replace hu1 : cu24 + C24.1 = T.1 := by omega
    replace hu2 : su24 + C24.2 = T.2 := by omega
    clear ecu24 esu24 eC1 eC2
    subst hn
    refine vx_catch hown [] ⟨19, 35, 38, 244⟩ [] (by rw [htab]; rfl) (fun z hz => by cases hz) (by decide) (by decide) (hts _ q837) (cast_self h3) h1 h2 h3 ?_
    refine lv_astore_n (lv' := [(1, .ref q9), (0, .ref o)]) hx hb dX1_port_38 rfl hl (by decide) rfl (fun ls hl => ?_)
    refine lv_aload_n hx hb dX1_port_39 rfl (lv_at hl 1 rfl) ?_
    obtain ⟨y24, ey24, hf⟩ := obd hf
    rcases y24 with r9 | r9
    · replace hf := selL hf
      cases hf
    replace hf := selR hf
    obtain ⟨ho9, hK⟩ := pry_e hf
    have hK1 : C24.1 = 1 := congrArg Prod.fst hK
    have hK2 : C24.2 = 6 := congrArg Prod.snd hK
    refine uxcallV (rest := []) hx hb hts hst hown hE hT hI hml hl.1 (mX1_fails Λ Λn _ _ ey24) (cwX1_fails_X1 hts ⟨Nat.le_of_ble_eq_true rfl, Nat.le_of_ble_eq_true rfl⟩) (hI.1.o 0 rfl) rfl rfl ⟨(show cu24 + 1 ≤ T.1 by omega), (show su24 + 6 ≤ T.2 by omega)⟩ rfl rfl (lv_room (Nat.le_of_ble_eq_true rfl)) dX1_port_40 (fun E ce q8 n9 σ' H locs ho hn hI h1 h2 h3 => ?_) (fun v9 H locs ho hI => ?_)
    · cases ho
      exact hxx H locs 40 ls _ _ _ E ce q8 n9 _ hI ho9 (by rw [htab]; decide) hn h1 h2 h3 (show cu24 + 1 ≤ T.1 by omega) (show su24 + 6 ≤ T.2 by omega)
    · cases ho
  subst ho
  replace hf := selL hf
  obtain ⟨cu24, ecu24⟩ : ∃ n, n = 0 + K24.1 := ⟨_, rfl⟩
  obtain ⟨su24, esu24⟩ : ∃ n, n = 0 + K24.2 := ⟨_, rfl⟩
  rw [← ecu24, ← esu24]
  replace hu1 : cu24 + C24.1 = T.1 := by omega
  replace hu2 : su24 + C24.2 = T.2 := by omega
  clear ecu24 esu24 eC1 eC2
  obtain ⟨k24, ek24, hf⟩ := obd hf
  rw [Option.some.inj ek24] at hI
  refine lv_aload_n hx hb dX1_port_27 rfl (lv_at hl 0 rfl) ?_
  refine gget hx hb hts in_X1 hown hE.1.1 (hI.1.o 0 rfl) rfl 4 (by decide) q469 rfl dX1_port_28 ?_
  refine lv_iconst (v := (-1 : Int32)) hx hb dX1_port_31 (by decide) ?_
  obtain ⟨t32, et32, hf⟩ := obd hf
  refine gputN hx hb hts in_X3 tyX3 tyX3_ok nmX3 hown hE.1.1 (hI.1.o 1 rfl) rfl 5 (by decide) (hE.1.2.2.f 39 rfl) rfl rfl rfl (Nat.le_of_ble_eq_true rfl) dX1_port_32 (fun H locs h1 h2 h3 h4 => ?_)
  have hI := hI.putO (σ' := cou k24 (mup (co k24) 1 5 (-1 : Int32))) (P := 1) rfl rfl ⟨rfl, rfl⟩ h1 h2 h3 h4
  rw [Option.some.inj et32] at hI
  refine lv_goto (tgt := 43) hx hb dX1_port_35 (by decide) ?_
  refine lv_aload_n hx hb dX1_port_43 rfl (lv_at hl 0 rfl) ?_
  refine gget hx hb hts in_X1 hown hE.1.1 (hI.1.o 0 rfl) rfl 0 (by decide) q463 rfl dX1_port_44 ?_
  refine ggetN hx hb hts in_X2 hown hE.1.1 (hI.1.w 0 (by decide) 0 rfl) rfl 0 (by decide) (hE.1.2.2.f 0 rfl) rfl dX1_port_47 ?_
  refine lv_bipush (v := (12 : Int32)) hx hb dX1_port_50 (by decide) ?_
  refine lv_icmp_ne (tgt := 63) hx hb dX1_port_52 (by decide) (fun hc => ?_) (fun hc => ?_)
  · replace hf := ineg hc hf
    refine lv_aload_n hx hb dX1_port_63 rfl (lv_at hl 0 rfl) ?_
    refine gget hx hb hts in_X1 hown hE.1.1 (hI.1.o 0 rfl) rfl 1 (by decide) q466 rfl dX1_port_64 ?_
    refine lv_dup hx hb dX1_port_67 rfl ?_
    refine ggetN hx hb hts in_X2 hown hE.1.1 (hI.1.w 1 (by decide) 0 rfl) rfl 0 (by decide) (hE.1.2.2.f 0 rfl) rfl dX1_port_68 ?_
    refine lv_iconst (v := (1 : Int32)) hx hb dX1_port_71 (by decide) ?_
    refine lv_iadd hx hb dX1_port_72 ?_
    obtain ⟨t73, et73, hf⟩ := obd hf
    refine gputN hx hb hts in_X2 tyX2 tyX2_ok nmX2 hown hE.1.1 (hI.1.w 1 (by decide) 0 rfl) rfl 0 (by decide) (hE.1.2.2.f 0 rfl) rfl rfl rfl (Nat.le_of_ble_eq_true rfl) dX1_port_73 (fun H locs h1 h2 h3 h4 => ?_)
    have hI := hI.putW (k := 1) (P := 0) (w' := mup (cw t32 1) 0 0 ((cw t32 1 0 0) + (1 : Int32))) (by decide) rfl rfl h1 h2 h3 h4
    rw [Option.some.inj et73] at hI
    refine lv_aload_n hx hb dX1_port_76 rfl (lv_at hl 0 rfl) ?_
    refine gget hx hb hts in_X1 hown hE.1.1 (hI.1.o 0 rfl) rfl 0 (by decide) q463 rfl dX1_port_77 ?_
    refine lv_aload_n hx hb dX1_port_80 rfl (lv_at hl 0 rfl) ?_
    refine gget hx hb hts in_X1 hown hE.1.1 (hI.1.o 0 rfl) rfl 1 (by decide) q466 rfl dX1_port_81 ?_
    obtain ⟨t84, et84, hf⟩ := obd hf
    refine uclikens (rest := []) hx hb hts hown hE hI hml hl.1 (by decide) (by decide) (by decide) et84 ⟨Nat.le_of_ble_eq_true rfl, Nat.le_of_ble_eq_true rfl⟩ ⟨leC hu1, leC hu2⟩ (lv_room (Nat.le_of_ble_eq_true rfl)) dX1_port_84 (fun H locs hI => ?_)
    refine lv_pop hx hb dX1_port_87 rfl ?_
    refine lv_aload_n hx hb dX1_port_88 rfl (lv_at hl 0 rfl) ?_
    refine gget hx hb hts in_X1 hown hE.1.1 (hI.1.o 0 rfl) rfl 8 (by decide) q474 rfl dX1_port_89 ?_
    obtain ⟨t92, et92, hf⟩ := obd hf
    refine uclear (rest := []) hx hb hts hown hE hEU hI hml hl.1 ⟨Nat.le_of_ble_eq_true rfl, Nat.le_of_ble_eq_true rfl⟩ ⟨leC hu1, leC hu2⟩ (lv_room (Nat.le_of_ble_eq_true rfl)) dX1_port_92 (fun H locs hI => ?_)
    rw [Option.some.inj et92] at hI
    refine lv_aload_n hx hb dX1_port_95 rfl (lv_at hl 0 rfl) ?_
    refine gget hx hb hts in_X1 hown hE.1.1 (hI.1.o 0 rfl) rfl 0 (by decide) q463 rfl dX1_port_96 ?_
    refine ggetN hx hb hts in_X2 hown hE.1.1 (hI.1.w 0 (by decide) 0 rfl) rfl 0 (by decide) (hE.1.2.2.f 0 rfl) rfl dX1_port_99 ?_
    obtain ⟨ho, -⟩ := pry_e hf
    exact hret H locs 102 ls _ _ _ _ hI ho (leC hu1) (leC hu2) dX1_port_102
  · replace hf := ipos hc hf
    obtain ⟨ho, hK⟩ := pry_e hf
    have hK1 : C24.1 = 1 := congrArg Prod.fst hK
    have hK2 : C24.2 = 6 := congrArg Prod.snd hK
    exact hthr H locs 55 ls _ _ 4 252 254 ["java/lang/RuntimeException", "java/lang/Exception"] _ hI ho (by rw [htab]; decide) hl.1 (hts _ q1378) (hts _ q160) (thr4_X1 hts hT) (by decide +kernel) (by decide +kernel) (by decide +kernel) dX1_port_55 dX1_port_58 dX1_port_59 dX1_port_62 (Nat.le_of_ble_eq_true rfl) (Nat.le_of_ble_eq_true rfl) (by show cu24 + 1 ≤ T.1; omega) (by show su24 + 6 ≤ T.2; omega)
