theorem dsX1_there_X1 {R : Room} {s : State} {args : Array Value} {fr lo : Nat} (hts : ∀ w ∈ lw_all, w.before args s = true) (hR : fr + 1 ≤ R.frames ∧ 8 + (2 + 11) + lo ≤ R.locals) : CallB R s args RX1 460 yX1_there cX1_there 2 (none) (ws_ yX1_there cX1_there 2 (none)) ({ frames := fr, cells := 0, slots := 0, locals := lo }) 0 0 2 ∧ (Cond.static yX1_there).before args s = true :=
  va_cwS 2 hts (lw_S q1673 q1674 q133 q1675) rfl rfl rfl (by decide +kernel) hR
theorem csX1_there_X1 {R : Room} {s : State} {args : Array Value} {fr lo : Nat} (hts : ∀ w ∈ lw_all, w.before args s = true) (hR : fr + 1 ≤ R.frames ∧ 8 + (2 + 11) + lo ≤ R.locals) : CallB R s args RX1 460 yX1_there cX1_there 2 (none) (ws_ yX1_there cX1_there 2 (none)) ({ frames := fr, cells := 1, slots := 6, locals := lo }) 1 6 2 ∧ (Cond.static yX1_there).before args s = true :=
  va_cwS 2 hts (lw_S q1673 q1674 q133 q1675) rfl rfl rfl (by decide +kernel) hR
def X1_partyAt (τ : Cs) (a1 : Int32) : Option Xo :=
  (X1_there a1 (cw τ 0 0 1)).bind fun x8 =>
  Option.elim x8 (
  some (.inl ((0 : Int32), τ))) fun n => some (.inr (n, τ))
set_option maxHeartbeats 4000000 in
theorem mX1_partyAt (Λ : Nat → Nat → (Nat → Int32) → Int32) (Λn : Nat → Int32) (τ : Cs) (a1 : Int32) (out : Xo) (hf : X1_partyAt τ a1 = some out) : CXv yX1_partyAt cX1_partyAt 2 (none) 11 321 1 6 Λ Λn (fun o aK aF => [.ref o, .int a1]) out τ := by
  refine CXv.of (by decide) (fun _ _ _ => Nat.le_of_ble_eq_true rfl) ?_
  intro p l e s m args below meth c D J o z aK aV G Ld aF Q ls hst hx hb hml hown hts hE hT hret hxx hthr hI hl
  obtain ⟨H, eH⟩ : ∃ H, H = s.heap := ⟨_, rfl⟩
  obtain ⟨locs, eL⟩ : ∃ L : List Loc, L = [] := ⟨_, rfl⟩
  rw [← eH, ← eL] at hI ⊢
  have hown : s.vm.findClass RX1 = some m.cls := hown
  have hl : lv_has ls 2 [(0, .ref o), (1, .int a1)] := hl
  unfold X1_partyAt at hf
  refine lv_iload_n hx hb dX1_partyAt_0 rfl (lv_at hl 1 rfl) ?_
  refine lv_aload_n hx hb dX1_partyAt_1 rfl (lv_at hl 0 rfl) ?_
  refine gget hx hb hts in_X1 hown hE.1.1 (hI.1.o 0 rfl) rfl 0 (by decide) q463 rfl dX1_partyAt_2 ?_
  refine ggetN hx hb hts in_X2 hown hE.1.1 (hI.1.w 0 (by decide) 0 rfl) rfl 1 (by decide) (hE.1.2.2.f 1 rfl) rfl dX1_partyAt_5 ?_
  obtain ⟨x8, ex8, hf⟩ := obd hf
  rcases x8 with _ | nx8
  rotate_left
  · replace hf := oelS hf
    exact xcallS (rest := []) hx hb hts hst hown hE hT hI hml hl.1 (mX1_there a1 (cw τ 0 0 1) _ ex8) (csX1_there_X1 hts ⟨Nat.le_of_ble_eq_true rfl, Nat.le_of_ble_eq_true rfl⟩) ⟨Nat.le_of_ble_eq_true rfl, Nat.le_of_ble_eq_true rfl⟩ rfl rfl (lv_room (Nat.le_of_ble_eq_true rfl)) dX1_partyAt_8 (fun E ce q9 n H locs ho hn hI h1 h2 h3 => by cases ho; exact hxx H locs 8 ls _ _ _ E ce q9 _ _ hI (Option.some.inj hf).symm hn h1 h2 h3 (Nat.le_of_ble_eq_true rfl) (Nat.le_of_ble_eq_true rfl)) (fun ho => by cases ho)
  replace hf := oelN hf
  refine tcallSv (rest := []) hx hb hts hown hml hl.1 (nX1_there a1 (cw τ 0 0 1) ex8) (dsX1_there_X1 hts ⟨Nat.le_of_ble_eq_true rfl, Nat.le_of_ble_eq_true rfl⟩) ⟨Nat.le_of_ble_eq_true rfl, Nat.le_of_ble_eq_true rfl⟩ rfl rfl (lv_room (Nat.le_of_ble_eq_true rfl)) dX1_partyAt_8 ?_
  refine W.widen (k := 1) (n := 6) (Nat.le_of_ble_eq_true rfl) (Nat.le_of_ble_eq_true rfl) ?_
  exact hret H locs 11 ls _ hI (Option.some.inj hf).symm dX1_partyAt_11

def X1_inkAt (τ : Cs) (a1 : Int32) : Option Xo :=
  (X1_there a1 (cw τ 0 0 2)).bind fun x8 =>
  Option.elim x8 (
  some (.inl ((0 : Int32), τ))) fun n => some (.inr (n, τ))
set_option maxHeartbeats 4000000 in
theorem mX1_inkAt (Λ : Nat → Nat → (Nat → Int32) → Int32) (Λn : Nat → Int32) (τ : Cs) (a1 : Int32) (out : Xo) (hf : X1_inkAt τ a1 = some out) : CXv yX1_inkAt cX1_inkAt 2 (none) 11 321 1 6 Λ Λn (fun o aK aF => [.ref o, .int a1]) out τ := by
  refine CXv.of (by decide) (fun _ _ _ => Nat.le_of_ble_eq_true rfl) ?_
  intro p l e s m args below meth c D J o z aK aV G Ld aF Q ls hst hx hb hml hown hts hE hT hret hxx hthr hI hl
  obtain ⟨H, eH⟩ : ∃ H, H = s.heap := ⟨_, rfl⟩
  obtain ⟨locs, eL⟩ : ∃ L : List Loc, L = [] := ⟨_, rfl⟩
  rw [← eH, ← eL] at hI ⊢
  have hown : s.vm.findClass RX1 = some m.cls := hown
  have hl : lv_has ls 2 [(0, .ref o), (1, .int a1)] := hl
  unfold X1_inkAt at hf
  refine lv_iload_n hx hb dX1_inkAt_0 rfl (lv_at hl 1 rfl) ?_
  refine lv_aload_n hx hb dX1_inkAt_1 rfl (lv_at hl 0 rfl) ?_
  refine gget hx hb hts in_X1 hown hE.1.1 (hI.1.o 0 rfl) rfl 0 (by decide) q463 rfl dX1_inkAt_2 ?_
  refine ggetN hx hb hts in_X2 hown hE.1.1 (hI.1.w 0 (by decide) 0 rfl) rfl 2 (by decide) (hE.1.2.2.f 3 rfl) rfl dX1_inkAt_5 ?_
  obtain ⟨x8, ex8, hf⟩ := obd hf
  rcases x8 with _ | nx8
  rotate_left
  · replace hf := oelS hf
    exact xcallS (rest := []) hx hb hts hst hown hE hT hI hml hl.1 (mX1_there a1 (cw τ 0 0 2) _ ex8) (csX1_there_X1 hts ⟨Nat.le_of_ble_eq_true rfl, Nat.le_of_ble_eq_true rfl⟩) ⟨Nat.le_of_ble_eq_true rfl, Nat.le_of_ble_eq_true rfl⟩ rfl rfl (lv_room (Nat.le_of_ble_eq_true rfl)) dX1_inkAt_8 (fun E ce q9 n H locs ho hn hI h1 h2 h3 => by cases ho; exact hxx H locs 8 ls _ _ _ E ce q9 _ _ hI (Option.some.inj hf).symm hn h1 h2 h3 (Nat.le_of_ble_eq_true rfl) (Nat.le_of_ble_eq_true rfl)) (fun ho => by cases ho)
  replace hf := oelN hf
  refine tcallSv (rest := []) hx hb hts hown hml hl.1 (nX1_there a1 (cw τ 0 0 2) ex8) (dsX1_there_X1 hts ⟨Nat.le_of_ble_eq_true rfl, Nat.le_of_ble_eq_true rfl⟩) ⟨Nat.le_of_ble_eq_true rfl, Nat.le_of_ble_eq_true rfl⟩ rfl rfl (lv_room (Nat.le_of_ble_eq_true rfl)) dX1_inkAt_8 ?_
  refine W.widen (k := 1) (n := 6) (Nat.le_of_ble_eq_true rfl) (Nat.le_of_ble_eq_true rfl) ?_
  exact hret H locs 11 ls _ hI (Option.some.inj hf).symm dX1_inkAt_11

def X1_deedAt (τ : Cs) (a1 : Int32) : Option Xo :=
  (X1_there a1 (cw τ 0 0 3)).bind fun x8 =>
  Option.elim x8 (
  some (.inl ((0 : Int32), τ))) fun n => some (.inr (n, τ))
set_option maxHeartbeats 4000000 in
theorem mX1_deedAt (Λ : Nat → Nat → (Nat → Int32) → Int32) (Λn : Nat → Int32) (τ : Cs) (a1 : Int32) (out : Xo) (hf : X1_deedAt τ a1 = some out) : CXv yX1_deedAt cX1_deedAt 2 (none) 11 321 1 6 Λ Λn (fun o aK aF => [.ref o, .int a1]) out τ := by
  refine CXv.of (by decide) (fun _ _ _ => Nat.le_of_ble_eq_true rfl) ?_
  intro p l e s m args below meth c D J o z aK aV G Ld aF Q ls hst hx hb hml hown hts hE hT hret hxx hthr hI hl
  obtain ⟨H, eH⟩ : ∃ H, H = s.heap := ⟨_, rfl⟩
  obtain ⟨locs, eL⟩ : ∃ L : List Loc, L = [] := ⟨_, rfl⟩
  rw [← eH, ← eL] at hI ⊢
  have hown : s.vm.findClass RX1 = some m.cls := hown
  have hl : lv_has ls 2 [(0, .ref o), (1, .int a1)] := hl
  unfold X1_deedAt at hf
  refine lv_iload_n hx hb dX1_deedAt_0 rfl (lv_at hl 1 rfl) ?_
  refine lv_aload_n hx hb dX1_deedAt_1 rfl (lv_at hl 0 rfl) ?_
  refine gget hx hb hts in_X1 hown hE.1.1 (hI.1.o 0 rfl) rfl 0 (by decide) q463 rfl dX1_deedAt_2 ?_
  refine ggetN hx hb hts in_X2 hown hE.1.1 (hI.1.w 0 (by decide) 0 rfl) rfl 3 (by decide) (hE.1.2.2.f 5 rfl) rfl dX1_deedAt_5 ?_
  obtain ⟨x8, ex8, hf⟩ := obd hf
  rcases x8 with _ | nx8
  rotate_left
  · replace hf := oelS hf
    exact xcallS (rest := []) hx hb hts hst hown hE hT hI hml hl.1 (mX1_there a1 (cw τ 0 0 3) _ ex8) (csX1_there_X1 hts ⟨Nat.le_of_ble_eq_true rfl, Nat.le_of_ble_eq_true rfl⟩) ⟨Nat.le_of_ble_eq_true rfl, Nat.le_of_ble_eq_true rfl⟩ rfl rfl (lv_room (Nat.le_of_ble_eq_true rfl)) dX1_deedAt_8 (fun E ce q9 n H locs ho hn hI h1 h2 h3 => by cases ho; exact hxx H locs 8 ls _ _ _ E ce q9 _ _ hI (Option.some.inj hf).symm hn h1 h2 h3 (Nat.le_of_ble_eq_true rfl) (Nat.le_of_ble_eq_true rfl)) (fun ho => by cases ho)
  replace hf := oelN hf
  refine tcallSv (rest := []) hx hb hts hown hml hl.1 (nX1_there a1 (cw τ 0 0 3) ex8) (dsX1_there_X1 hts ⟨Nat.le_of_ble_eq_true rfl, Nat.le_of_ble_eq_true rfl⟩) ⟨Nat.le_of_ble_eq_true rfl, Nat.le_of_ble_eq_true rfl⟩ rfl rfl (lv_room (Nat.le_of_ble_eq_true rfl)) dX1_deedAt_8 ?_
  refine W.widen (k := 1) (n := 6) (Nat.le_of_ble_eq_true rfl) (Nat.le_of_ble_eq_true rfl) ?_
  exact hret H locs 11 ls _ hI (Option.some.inj hf).symm dX1_deedAt_11

theorem cwX1_partyAt_X1 {R : Room} {s : State} {args : Array Value} {fr lo : Nat} (hts : ∀ w ∈ lw_all, w.before args s = true) (hR : fr + 1 ≤ R.frames ∧ 8 + (2 + 11) + lo ≤ R.locals) : CallW R s args RX1 RX1 463 yX1_partyAt cX1_partyAt 2 (none) (ws_ yX1_partyAt cX1_partyAt 2 (none)) ({ frames := fr, cells := 1, slots := 6, locals := lo }) 1 6 1 :=
  cwV 1 hts (lw_V q1669 q1671 qs38 q133 q1672) rfl rfl rfl (by decide +kernel) hR
def X1_twoParties (τ : Cs) (a1 : Int32) (a2 : Int32) : Option Xo :=
  (X1_partyAt τ a1).bind fun x2 =>
  Sum.elim (fun (v2 : Int32 × Cs) =>
    (X1_partyAt v2.2 a2).bind fun x7 =>
    Sum.elim (fun (v7 : Int32 × Cs) =>
      if a1 = a2 then
        (X1_demand (0 : Int32)).bind fun x20 =>
        Option.elim x20 (
        some (.inl ((0 : Int32), v7.2))) fun n => some (.inr (n, v7.2))
      else
        (X1_demand (1 : Int32)).bind fun x20_6 =>
        Option.elim x20_6 (
        some (.inl ((0 : Int32), v7.2))) fun n => some (.inr (n, v7.2))) (fun (u : Nat × Cs) => some (.inr u)) x7) (fun (u : Nat × Cs) => some (.inr u)) x2
set_option maxHeartbeats 4000000 in
theorem mX1_twoParties (Λ : Nat → Nat → (Nat → Int32) → Int32) (Λn : Nat → Int32) (τ : Cs) (a1 : Int32) (a2 : Int32) (out : Xo) (hf : X1_twoParties τ a1 a2 = some out) : CXv yX1_twoParties cX1_twoParties 3 (none) 12 342 3 18 Λ Λn (fun o aK aF => [.ref o, .int a1, .int a2]) out τ := by
  refine CXv.of (by decide) (fun _ _ _ => Nat.le_of_ble_eq_true rfl) ?_
  intro p l e s m args below meth c D J o z aK aV G Ld aF Q ls hst hx hb hml hown hts hE hT hret hxx hthr hI hl
  obtain ⟨H, eH⟩ : ∃ H, H = s.heap := ⟨_, rfl⟩
  obtain ⟨locs, eL⟩ : ∃ L : List Loc, L = [] := ⟨_, rfl⟩
  rw [← eH, ← eL] at hI ⊢
  have hown : s.vm.findClass RX1 = some m.cls := hown
  have hl : lv_has ls 3 [(0, .ref o), (1, .int a1), (2, .int a2)] := hl
  unfold X1_twoParties at hf
  refine lv_aload_n hx hb dX1_twoParties_0 rfl (lv_at hl 0 rfl) ?_
  refine lv_iload_n hx hb dX1_twoParties_1 rfl (lv_at hl 1 rfl) ?_
  obtain ⟨x2, ex2, hf⟩ := obd hf
  refine xcallV (rest := []) hx hb hts hst hown hE hT hI hml hl.1 (mX1_partyAt Λ Λn τ a1 _ ex2) (cwX1_partyAt_X1 hts ⟨Nat.le_of_ble_eq_true rfl, Nat.le_of_ble_eq_true rfl⟩) (hI.1.o 0 rfl) rfl rfl ⟨Nat.le_of_ble_eq_true rfl, Nat.le_of_ble_eq_true rfl⟩ rfl rfl (lv_room (Nat.le_of_ble_eq_true rfl)) dX1_twoParties_2 (fun E ce q9 n σ' H locs ho hn hI h1 h2 h3 => by subst ho; have hf := selR hf; exact hxx H locs 2 ls _ _ _ E ce q9 n σ' hI (Option.some.inj hf).symm hn h1 h2 h3 (Nat.le_of_ble_eq_true rfl) (Nat.le_of_ble_eq_true rfl)) (fun v2 H locs ho hI => ?_)
  subst ho
  replace hf := selL hf
  refine lv_aload_n hx hb dX1_twoParties_5 rfl (lv_at hl 0 rfl) ?_
  refine lv_iload_n hx hb dX1_twoParties_6 rfl (lv_at hl 2 rfl) ?_
  obtain ⟨x7, ex7, hf⟩ := obd hf
  refine xcallV (rest := []) hx hb hts hst hown hE hT hI hml hl.1 (mX1_partyAt Λ Λn v2.2 a2 _ ex7) (cwX1_partyAt_X1 hts ⟨Nat.le_of_ble_eq_true rfl, Nat.le_of_ble_eq_true rfl⟩) (hI.1.o 0 rfl) rfl rfl ⟨Nat.le_of_ble_eq_true rfl, Nat.le_of_ble_eq_true rfl⟩ rfl rfl (lv_room (Nat.le_of_ble_eq_true rfl)) dX1_twoParties_7 (fun E ce q9 n σ' H locs ho hn hI h1 h2 h3 => by subst ho; have hf := selR hf; exact hxx H locs 7 ls _ _ _ E ce q9 n σ' hI (Option.some.inj hf).symm hn h1 h2 h3 (Nat.le_of_ble_eq_true rfl) (Nat.le_of_ble_eq_true rfl)) (fun v7 H locs ho hI => ?_)
  subst ho
  replace hf := selL hf
  refine lv_iload_n hx hb dX1_twoParties_10 rfl (lv_at hl 1 rfl) ?_
  refine lv_iload_n hx hb dX1_twoParties_11 rfl (lv_at hl 2 rfl) ?_
  refine lv_icmp_eq (tgt := 19) hx hb dX1_twoParties_12 (by decide) (fun hc => ?_) (fun hc => ?_)
  · replace hf := ipos hc hf
    refine lv_iconst (v := (0 : Int32)) hx hb dX1_twoParties_19 (by decide) ?_
    obtain ⟨x20, ex20, hf⟩ := obd hf
    rcases x20 with _ | nx20
    rotate_left
    · replace hf := oelS hf
      exact xcallS (rest := []) hx hb hts hst hown hE hT hI hml hl.1 (mX1_demand (0 : Int32) _ ex20) (csX1_demand_X1 hts ⟨Nat.le_of_ble_eq_true rfl, Nat.le_of_ble_eq_true rfl⟩) ⟨Nat.le_of_ble_eq_true rfl, Nat.le_of_ble_eq_true rfl⟩ rfl rfl (lv_room (Nat.le_of_ble_eq_true rfl)) dX1_twoParties_20 (fun E ce q9 n H locs ho hn hI h1 h2 h3 => by cases ho; exact hxx H locs 20 ls _ _ _ E ce q9 _ _ hI (Option.some.inj hf).symm hn h1 h2 h3 (Nat.le_of_ble_eq_true rfl) (Nat.le_of_ble_eq_true rfl)) (fun ho => by cases ho)
    replace hf := oelN hf
    refine tcallSv (rest := []) hx hb hts hown hml hl.1 (nX1_demand (0 : Int32) ex20) (dsX1_demand_X1 hts ⟨Nat.le_of_ble_eq_true rfl, Nat.le_of_ble_eq_true rfl⟩) ⟨Nat.le_of_ble_eq_true rfl, Nat.le_of_ble_eq_true rfl⟩ rfl rfl (lv_room (Nat.le_of_ble_eq_true rfl)) dX1_twoParties_20 ?_
    refine W.widen (k := 3) (n := 18) (Nat.le_of_ble_eq_true rfl) (Nat.le_of_ble_eq_true rfl) ?_
    exact hret H locs 23 ls _ hI (Option.some.inj hf).symm dX1_twoParties_23
  · replace hf := ineg hc hf
    refine lv_iconst (v := (1 : Int32)) hx hb dX1_twoParties_15 (by decide) ?_
    refine lv_goto (tgt := 20) hx hb dX1_twoParties_16 (by decide) ?_
    obtain ⟨x20_6, ex20_6, hf⟩ := obd hf
    rcases x20_6 with _ | nx20_6
    rotate_left
    · replace hf := oelS hf
      exact xcallS (rest := []) hx hb hts hst hown hE hT hI hml hl.1 (mX1_demand (1 : Int32) _ ex20_6) (csX1_demand_X1 hts ⟨Nat.le_of_ble_eq_true rfl, Nat.le_of_ble_eq_true rfl⟩) ⟨Nat.le_of_ble_eq_true rfl, Nat.le_of_ble_eq_true rfl⟩ rfl rfl (lv_room (Nat.le_of_ble_eq_true rfl)) dX1_twoParties_20 (fun E ce q9 n H locs ho hn hI h1 h2 h3 => by cases ho; exact hxx H locs 20 ls _ _ _ E ce q9 _ _ hI (Option.some.inj hf).symm hn h1 h2 h3 (Nat.le_of_ble_eq_true rfl) (Nat.le_of_ble_eq_true rfl)) (fun ho => by cases ho)
    replace hf := oelN hf
    refine tcallSv (rest := []) hx hb hts hown hml hl.1 (nX1_demand (1 : Int32) ex20_6) (dsX1_demand_X1 hts ⟨Nat.le_of_ble_eq_true rfl, Nat.le_of_ble_eq_true rfl⟩) ⟨Nat.le_of_ble_eq_true rfl, Nat.le_of_ble_eq_true rfl⟩ rfl rfl (lv_room (Nat.le_of_ble_eq_true rfl)) dX1_twoParties_20 ?_
    refine W.widen (k := 3) (n := 18) (Nat.le_of_ble_eq_true rfl) (Nat.le_of_ble_eq_true rfl) ?_
    exact hret H locs 23 ls _ hI (Option.some.inj hf).symm dX1_twoParties_23

theorem dsX1_question_X1 {R : Room} {s : State} {args : Array Value} {fr lo : Nat} (hts : ∀ w ∈ lw_all, w.before args s = true) (hR : fr + 1 ≤ R.frames ∧ 8 + (2 + 11) + lo ≤ R.locals) : CallB R s args RX1 473 yX1_question cX1_question 2 (none) (ws_ yX1_question cX1_question 2 (none)) ({ frames := fr, cells := 0, slots := 0, locals := lo }) 0 0 2 ∧ (Cond.static yX1_question).before args s = true :=
  va_cwS 2 hts (lw_S q1692 q1693 q133 q1694) rfl rfl rfl (by decide +kernel) hR
theorem csX1_question_X1 {R : Room} {s : State} {args : Array Value} {fr lo : Nat} (hts : ∀ w ∈ lw_all, w.before args s = true) (hR : fr + 1 ≤ R.frames ∧ 8 + (2 + 11) + lo ≤ R.locals) : CallB R s args RX1 473 yX1_question cX1_question 2 (none) (ws_ yX1_question cX1_question 2 (none)) ({ frames := fr, cells := 1, slots := 6, locals := lo }) 1 6 2 ∧ (Cond.static yX1_question).before args s = true :=
  va_cwS 2 hts (lw_S q1692 q1693 q133 q1694) rfl rfl rfl (by decide +kernel) hR
theorem cwX1_shareOf_X1 {R : Room} {s : State} {args : Array Value} {fr lo : Nat} (hts : ∀ w ∈ lw_all, w.before args s = true) (hR : fr + 1 ≤ R.frames ∧ 8 + (3 + 11) + lo ≤ R.locals) : CallW R s args RX1 RX1 476 yX1_shareOf cX1_shareOf 3 (some .int) (ws_ yX1_shareOf cX1_shareOf 3 (some .int)) ({ frames := fr, cells := 0, slots := 0, locals := lo }) 0 0 1 :=
  cwV 1 hts (lw_V q1710 q1712 qs39 q133 q1713) rfl rfl rfl (by decide +kernel) hR
theorem cwX5_of_X1 {R : Room} {s : State} {args : Array Value} {fr lo : Nat} (hts : ∀ w ∈ lw_all, w.before args s = true) (hR : fr + 1 ≤ R.frames ∧ 8 + (5 + 11) + lo ≤ R.locals) : CallW R s args RX1 RX5 479 yX5_of cX5_of 5 (some (.object "LateInks$Readings")) (ws_ yX5_of cX5_of 5 (some (.object "LateInks$Readings"))) ({ frames := fr, cells := 0, slots := 0, locals := lo }) 0 0 1 :=
  cwV 1 hts (lw_V q1714 q1715 q1716 q138 q1717) rfl rfl rfl (by decide +kernel) hR
theorem cwX5_fortune_X1 {R : Room} {s : State} {args : Array Value} {fr lo : Nat} (hts : ∀ w ∈ lw_all, w.before args s = true) (hR : fr + 1 ≤ R.frames ∧ 8 + (1 + 11) + lo ≤ R.locals) : CallW R s args RX1 RX5 491 yX5_fortune cX5_fortune 1 (some .int) (ws_ yX5_fortune cX5_fortune 1 (some .int)) ({ frames := fr, cells := 0, slots := 0, locals := lo }) 0 0 0 :=
  cwV 0 hts (lw_V q1728 q1729 q1730 q138 q1731) rfl rfl rfl (by decide +kernel) hR
def X1_party (τ : Cs) (a1 : Int32) (a2 : Int32) : Option Xo :=
  (X1_partyAt τ a1).bind fun x2 =>
  Sum.elim (fun (v2 : Int32 × Cs) =>
    (X1_question a2 (6 : Int32)).bind fun x8 =>
    Option.elim x8 (
    if a2 = (0 : Int32) then
      (ld 6 (cw v2.2 0 10) a1).bind fun x60 =>
      some (.inl (x60, v2.2))
    else
    if a2 = (1 : Int32) then
      (ld 6 (cw v2.2 0 14) a1).bind fun x70 =>
      if x70 = (0 : Int32) then
        some (.inl ((0 : Int32), v2.2))
      else
        some (.inl ((1 : Int32), v2.2))
    else
    if a2 = (2 : Int32) then
      (X1_shareOf v2.2 a1).bind fun x82 =>
      some (.inl (x82, v2.2))
    else
    if a2 = (3 : Int32) then
      (X5_of v2.2 a1).bind fun t91 =>
      some (.inl ((co t91 4 0), t91))
    else
    if a2 = (4 : Int32) then
      (X5_of v2.2 a1).bind fun t103 =>
      some (.inl ((co t103 4 1), t103))
    else
    if a2 = (5 : Int32) then
      (X5_of v2.2 a1).bind fun t115 =>
      some (.inl ((co t115 4 2), t115))
    else
    (X5_of v2.2 a1).bind fun t127 =>
    (X5_fortune t127).bind fun x130 =>
    some (.inl (x130, t127))) fun n => some (.inr (n, v2.2))) (fun (u : Nat × Cs) => some (.inr u)) x2
set_option maxHeartbeats 4000000 in
theorem mX1_party (Λ : Nat → Nat → (Nat → Int32) → Int32) (Λn : Nat → Int32) (τ : Cs) (a1 : Int32) (a2 : Int32) (out : Xo) (hf : X1_party τ a1 a2 = some out) : CXi yX1_party cX1_party 3 (some .int) 12 342 2 12 Λ Λn (fun o aK aF => [.ref o, .int a1, .int a2]) out τ := by
  refine CXi.of (by decide) (fun _ _ _ => Nat.le_of_ble_eq_true rfl) ?_
  intro p l e s m args below meth c D J o z aK aV G Ld aF Q ls hst hx hb hml hown hts hE hT hret hxx hthr hI hl
  obtain ⟨H, eH⟩ : ∃ H, H = s.heap := ⟨_, rfl⟩
  obtain ⟨locs, eL⟩ : ∃ L : List Loc, L = [] := ⟨_, rfl⟩
  rw [← eH, ← eL] at hI ⊢
  have hown : s.vm.findClass RX1 = some m.cls := hown
  have hl : lv_has ls 3 [(0, .ref o), (1, .int a1), (2, .int a2)] := hl
  unfold X1_party at hf
  refine lv_aload_n hx hb dX1_party_0 rfl (lv_at hl 0 rfl) ?_
  refine lv_iload_n hx hb dX1_party_1 rfl (lv_at hl 1 rfl) ?_
  obtain ⟨x2, ex2, hf⟩ := obd hf
  refine xcallV (rest := []) hx hb hts hst hown hE hT hI hml hl.1 (mX1_partyAt Λ Λn τ a1 _ ex2) (cwX1_partyAt_X1 hts ⟨Nat.le_of_ble_eq_true rfl, Nat.le_of_ble_eq_true rfl⟩) (hI.1.o 0 rfl) rfl rfl ⟨Nat.le_of_ble_eq_true rfl, Nat.le_of_ble_eq_true rfl⟩ rfl rfl (lv_room (Nat.le_of_ble_eq_true rfl)) dX1_party_2 (fun E ce q9 n σ' H locs ho hn hI h1 h2 h3 => by subst ho; have hf := selR hf; exact hxx H locs 2 ls _ _ _ E ce q9 n σ' hI (Option.some.inj hf).symm hn h1 h2 h3 (Nat.le_of_ble_eq_true rfl) (Nat.le_of_ble_eq_true rfl)) (fun v2 H locs ho hI => ?_)
  subst ho
  replace hf := selL hf
  refine lv_iload_n hx hb dX1_party_5 rfl (lv_at hl 2 rfl) ?_
  refine lv_bipush (v := (6 : Int32)) hx hb dX1_party_6 (by decide) ?_
  obtain ⟨x8, ex8, hf⟩ := obd hf
  rcases x8 with _ | nx8
  rotate_left
  · replace hf := oelS hf
    exact xcallS (rest := []) hx hb hts hst hown hE hT hI hml hl.1 (mX1_question a2 (6 : Int32) _ ex8) (csX1_question_X1 hts ⟨Nat.le_of_ble_eq_true rfl, Nat.le_of_ble_eq_true rfl⟩) ⟨Nat.le_of_ble_eq_true rfl, Nat.le_of_ble_eq_true rfl⟩ rfl rfl (lv_room (Nat.le_of_ble_eq_true rfl)) dX1_party_8 (fun E ce q9 n H locs ho hn hI h1 h2 h3 => by cases ho; exact hxx H locs 8 ls _ _ _ E ce q9 _ _ hI (Option.some.inj hf).symm hn h1 h2 h3 (Nat.le_of_ble_eq_true rfl) (Nat.le_of_ble_eq_true rfl)) (fun ho => by cases ho)
  replace hf := oelN hf
  refine tcallSv (rest := []) hx hb hts hown hml hl.1 (nX1_question a2 (6 : Int32) ex8) (dsX1_question_X1 hts ⟨Nat.le_of_ble_eq_true rfl, Nat.le_of_ble_eq_true rfl⟩) ⟨Nat.le_of_ble_eq_true rfl, Nat.le_of_ble_eq_true rfl⟩ rfl rfl (lv_room (Nat.le_of_ble_eq_true rfl)) dX1_party_8 ?_
  refine lv_iload_n hx hb dX1_party_11 rfl (lv_at hl 2 rfl) ?_
  by_cases hs12_0 : a2 = (0 : Int32)
  · replace hf := ipos hs12_0 hf
    refine lv_tableIn (off := 40) (tgt := 52) hx hb dX1_party_12 (by rw [hs12_0]; decide) (by rw [hs12_0]; decide) (by rw [hs12_0]; rfl) (by decide) ?_
    refine lv_aload_n hx hb dX1_party_52 rfl (lv_at hl 0 rfl) ?_
    refine gget hx hb hts in_X1 hown hE.1.1 (hI.1.o 0 rfl) rfl 0 (by decide) q463 rfl dX1_party_53 ?_
    refine ggetN hx hb hts in_X2 hown hE.1.1 (hI.1.w 0 (by decide) 0 rfl) rfl 10 (by decide) (hE.1.2.2.f 12 rfl) rfl dX1_party_56 ?_
    refine lv_iload_n hx hb dX1_party_59 rfl (lv_at hl 1 rfl) ?_
    obtain ⟨x60, ex60, hf⟩ := obd hf
    refine gald hx hb hE.1.1 0 (hI.1.w 0 (by decide) 2 rfl) rfl ex60 dX1_party_60 ?_
    refine W.widen (k := 2) (n := 12) (Nat.le_of_ble_eq_true rfl) (Nat.le_of_ble_eq_true rfl) ?_
    exact hret H locs 61 ls _ _ hI (Option.some.inj hf).symm dX1_party_61
  replace hf := ineg hs12_0 hf
  by_cases hs12_1 : a2 = (1 : Int32)
  · replace hf := ipos hs12_1 hf
    refine lv_tableIn (off := 50) (tgt := 62) hx hb dX1_party_12 (by rw [hs12_1]; decide) (by rw [hs12_1]; decide) (by rw [hs12_1]; rfl) (by decide) ?_
    refine lv_aload_n hx hb dX1_party_62 rfl (lv_at hl 0 rfl) ?_
    refine gget hx hb hts in_X1 hown hE.1.1 (hI.1.o 0 rfl) rfl 0 (by decide) q463 rfl dX1_party_63 ?_
    refine ggetN hx hb hts in_X2 hown hE.1.1 (hI.1.w 0 (by decide) 0 rfl) rfl 14 (by decide) (hE.1.2.2.f 17 rfl) rfl dX1_party_66 ?_
    refine lv_iload_n hx hb dX1_party_69 rfl (lv_at hl 1 rfl) ?_
    obtain ⟨x70, ex70, hf⟩ := obd hf
    refine gzld hx hb hE.1.1 1 (hI.1.w 0 (by decide) 6 rfl) rfl ex70 dX1_party_70 ?_
    refine lv_if_eq (tgt := 78) hx hb dX1_party_71 (by decide) (fun hc => ?_) (fun hc => ?_)
    · replace hf := ipos hc hf
      refine lv_iconst (v := (0 : Int32)) hx hb dX1_party_78 (by decide) ?_
      refine W.widen (k := 2) (n := 12) (Nat.le_of_ble_eq_true rfl) (Nat.le_of_ble_eq_true rfl) ?_
      exact hret H locs 79 ls _ _ hI (Option.some.inj hf).symm dX1_party_79
    · replace hf := ineg hc hf
      refine lv_iconst (v := (1 : Int32)) hx hb dX1_party_74 (by decide) ?_
      refine lv_goto (tgt := 79) hx hb dX1_party_75 (by decide) ?_
      refine W.widen (k := 2) (n := 12) (Nat.le_of_ble_eq_true rfl) (Nat.le_of_ble_eq_true rfl) ?_
      exact hret H locs 79 ls _ _ hI (Option.some.inj hf).symm dX1_party_79
  replace hf := ineg hs12_1 hf
  by_cases hs12_2 : a2 = (2 : Int32)
  · replace hf := ipos hs12_2 hf
    refine lv_tableIn (off := 68) (tgt := 80) hx hb dX1_party_12 (by rw [hs12_2]; decide) (by rw [hs12_2]; decide) (by rw [hs12_2]; rfl) (by decide) ?_
    refine lv_aload_n hx hb dX1_party_80 rfl (lv_at hl 0 rfl) ?_
    refine lv_iload_n hx hb dX1_party_81 rfl (lv_at hl 1 rfl) ?_
    obtain ⟨x82, ex82, hf⟩ := obd hf
    refine ccallI (rest := []) hx hb hts hown hE hI hml hl.1 (mX1_shareOf Λ Λn v2.2 a1 _ ex82) (cwX1_shareOf_X1 hts ⟨Nat.le_of_ble_eq_true rfl, Nat.le_of_ble_eq_true rfl⟩) (hI.1.o 0 rfl) rfl rfl ⟨Nat.le_of_ble_eq_true rfl, Nat.le_of_ble_eq_true rfl⟩ rfl rfl (lv_room (Nat.le_of_ble_eq_true rfl)) dX1_party_82 (fun H locs hI => ?_)
    refine W.widen (k := 2) (n := 12) (Nat.le_of_ble_eq_true rfl) (Nat.le_of_ble_eq_true rfl) ?_
    exact hret H locs 85 ls _ _ hI (Option.some.inj hf).symm dX1_party_85
  replace hf := ineg hs12_2 hf
  by_cases hs12_3 : a2 = (3 : Int32)
  · replace hf := ipos hs12_3 hf
    refine lv_tableIn (off := 74) (tgt := 86) hx hb dX1_party_12 (by rw [hs12_3]; decide) (by rw [hs12_3]; decide) (by rw [hs12_3]; rfl) (by decide) ?_
    refine lv_aload_n hx hb dX1_party_86 rfl (lv_at hl 0 rfl) ?_
    refine gget hx hb hts in_X1 hown hE.1.1 (hI.1.o 0 rfl) rfl 7 (by decide) q473 rfl dX1_party_87 ?_
    refine lv_iload_n hx hb dX1_party_90 rfl (lv_at hl 1 rfl) ?_
    obtain ⟨t91, et91, hf⟩ := obd hf
    refine ccallR (rest := []) hx hb hts hown hE hI hml hl.1 (mX5_of Λ Λn v2.2 a1 _ et91) (cwX5_of_X1 hts ⟨Nat.le_of_ble_eq_true rfl, Nat.le_of_ble_eq_true rfl⟩) (hI.1.o 4 rfl) rfl rfl ⟨Nat.le_of_ble_eq_true rfl, Nat.le_of_ble_eq_true rfl⟩ rfl rfl (lv_room (Nat.le_of_ble_eq_true rfl)) dX1_party_91 (fun H locs hI => ?_)
    refine ggetN hx hb hts in_X5 hown hE.1.1 (hI.1.o 4 rfl) rfl 0 (by decide) (hE.1.2.2.f 51 rfl) rfl dX1_party_94 ?_
    refine W.widen (k := 2) (n := 12) (Nat.le_of_ble_eq_true rfl) (Nat.le_of_ble_eq_true rfl) ?_
    exact hret H locs 97 ls _ _ hI (Option.some.inj hf).symm dX1_party_97
  replace hf := ineg hs12_3 hf
  by_cases hs12_4 : a2 = (4 : Int32)
  · replace hf := ipos hs12_4 hf
    refine lv_tableIn (off := 86) (tgt := 98) hx hb dX1_party_12 (by rw [hs12_4]; decide) (by rw [hs12_4]; decide) (by rw [hs12_4]; rfl) (by decide) ?_
    refine lv_aload_n hx hb dX1_party_98 rfl (lv_at hl 0 rfl) ?_
    refine gget hx hb hts in_X1 hown hE.1.1 (hI.1.o 0 rfl) rfl 7 (by decide) q473 rfl dX1_party_99 ?_
    refine lv_iload_n hx hb dX1_party_102 rfl (lv_at hl 1 rfl) ?_
    obtain ⟨t103, et103, hf⟩ := obd hf
    refine ccallR (rest := []) hx hb hts hown hE hI hml hl.1 (mX5_of Λ Λn v2.2 a1 _ et103) (cwX5_of_X1 hts ⟨Nat.le_of_ble_eq_true rfl, Nat.le_of_ble_eq_true rfl⟩) (hI.1.o 4 rfl) rfl rfl ⟨Nat.le_of_ble_eq_true rfl, Nat.le_of_ble_eq_true rfl⟩ rfl rfl (lv_room (Nat.le_of_ble_eq_true rfl)) dX1_party_103 (fun H locs hI => ?_)
    refine ggetN hx hb hts in_X5 hown hE.1.1 (hI.1.o 4 rfl) rfl 1 (by decide) (hE.1.2.2.f 52 rfl) rfl dX1_party_106 ?_
    refine W.widen (k := 2) (n := 12) (Nat.le_of_ble_eq_true rfl) (Nat.le_of_ble_eq_true rfl) ?_
    exact hret H locs 109 ls _ _ hI (Option.some.inj hf).symm dX1_party_109
  replace hf := ineg hs12_4 hf
  by_cases hs12_5 : a2 = (5 : Int32)
  · replace hf := ipos hs12_5 hf
    refine lv_tableIn (off := 98) (tgt := 110) hx hb dX1_party_12 (by rw [hs12_5]; decide) (by rw [hs12_5]; decide) (by rw [hs12_5]; rfl) (by decide) ?_
    refine lv_aload_n hx hb dX1_party_110 rfl (lv_at hl 0 rfl) ?_
    refine gget hx hb hts in_X1 hown hE.1.1 (hI.1.o 0 rfl) rfl 7 (by decide) q473 rfl dX1_party_111 ?_
    refine lv_iload_n hx hb dX1_party_114 rfl (lv_at hl 1 rfl) ?_
    obtain ⟨t115, et115, hf⟩ := obd hf
    refine ccallR (rest := []) hx hb hts hown hE hI hml hl.1 (mX5_of Λ Λn v2.2 a1 _ et115) (cwX5_of_X1 hts ⟨Nat.le_of_ble_eq_true rfl, Nat.le_of_ble_eq_true rfl⟩) (hI.1.o 4 rfl) rfl rfl ⟨Nat.le_of_ble_eq_true rfl, Nat.le_of_ble_eq_true rfl⟩ rfl rfl (lv_room (Nat.le_of_ble_eq_true rfl)) dX1_party_115 (fun H locs hI => ?_)
    refine ggetN hx hb hts in_X5 hown hE.1.1 (hI.1.o 4 rfl) rfl 2 (by decide) (hE.1.2.2.f 53 rfl) rfl dX1_party_118 ?_
    refine W.widen (k := 2) (n := 12) (Nat.le_of_ble_eq_true rfl) (Nat.le_of_ble_eq_true rfl) ?_
    exact hret H locs 121 ls _ _ hI (Option.some.inj hf).symm dX1_party_121
  replace hf := ineg hs12_5 hf
  refine lv_tableOut (tgt := 122) hx hb dX1_party_12 (tswOut (n := 5) (by decide) (fun k hk => ?_)) (by decide) ?_
  · match k, hk with
    | 0, _ => exact hs12_0
    | 1, _ => exact hs12_1
    | 2, _ => exact hs12_2
    | 3, _ => exact hs12_3
    | 4, _ => exact hs12_4
    | 5, _ => exact hs12_5
  refine lv_aload_n hx hb dX1_party_122 rfl (lv_at hl 0 rfl) ?_
  refine gget hx hb hts in_X1 hown hE.1.1 (hI.1.o 0 rfl) rfl 7 (by decide) q473 rfl dX1_party_123 ?_
  refine lv_iload_n hx hb dX1_party_126 rfl (lv_at hl 1 rfl) ?_
  obtain ⟨t127, et127, hf⟩ := obd hf
  refine ccallR (rest := []) hx hb hts hown hE hI hml hl.1 (mX5_of Λ Λn v2.2 a1 _ et127) (cwX5_of_X1 hts ⟨Nat.le_of_ble_eq_true rfl, Nat.le_of_ble_eq_true rfl⟩) (hI.1.o 4 rfl) rfl rfl ⟨Nat.le_of_ble_eq_true rfl, Nat.le_of_ble_eq_true rfl⟩ rfl rfl (lv_room (Nat.le_of_ble_eq_true rfl)) dX1_party_127 (fun H locs hI => ?_)
  obtain ⟨x130, ex130, hf⟩ := obd hf
  refine ccallI (rest := []) hx hb hts hown hE hI hml hl.1 (mX5_fortune Λ Λn t127 _ ex130) (cwX5_fortune_X1 hts ⟨Nat.le_of_ble_eq_true rfl, Nat.le_of_ble_eq_true rfl⟩) (hI.1.o 4 rfl) rfl rfl ⟨Nat.le_of_ble_eq_true rfl, Nat.le_of_ble_eq_true rfl⟩ rfl rfl (lv_room (Nat.le_of_ble_eq_true rfl)) dX1_party_130 (fun H locs hI => ?_)
  refine W.widen (k := 2) (n := 12) (Nat.le_of_ble_eq_true rfl) (Nat.le_of_ble_eq_true rfl) ?_
  exact hret H locs 133 ls _ _ hI (Option.some.inj hf).symm dX1_party_133

theorem cwX1_inkAt_X1 {R : Room} {s : State} {args : Array Value} {fr lo : Nat} (hts : ∀ w ∈ lw_all, w.before args s = true) (hR : fr + 1 ≤ R.frames ∧ 8 + (2 + 11) + lo ≤ R.locals) : CallW R s args RX1 RX1 494 yX1_inkAt cX1_inkAt 2 (none) (ws_ yX1_inkAt cX1_inkAt 2 (none)) ({ frames := fr, cells := 1, slots := 6, locals := lo }) 1 6 1 :=
  cwV 1 hts (lw_V q1740 q1742 qs40 q133 q1743) rfl rfl rfl (by decide +kernel) hR
theorem cwX1_jarOf_X1 {R : Room} {s : State} {args : Array Value} {fr lo : Nat} (hts : ∀ w ∈ lw_all, w.before args s = true) (hR : fr + 1 ≤ R.frames ∧ 8 + (4 + 11) + lo ≤ R.locals) : CallW R s args RX1 RX1 497 yX1_jarOf cX1_jarOf 4 (some .int) (ws_ yX1_jarOf cX1_jarOf 4 (some .int)) ({ frames := fr, cells := 0, slots := 0, locals := lo }) 0 0 1 :=
  cwV 1 hts (lw_V q1744 q1746 qs41 q133 q1747) rfl rfl rfl (by decide +kernel) hR
def X1_ink (τ : Cs) (a1 : Int32) (a2 : Int32) : Option Xo :=
  (X1_inkAt τ a1).bind fun x2 =>
  Sum.elim (fun (v2 : Int32 × Cs) =>
    (X1_question a2 (3 : Int32)).bind fun x7 =>
    Option.elim x7 (
    if a2 = (0 : Int32) then
      (ld 6 (cw v2.2 0 11) a1).bind fun x24 =>
      some (.inl (x24, v2.2))
    else
      if a2 = (1 : Int32) then
        (ld 6 (cw v2.2 0 12) a1).bind fun x38 =>
        some (.inl (x38, v2.2))
      else
        if a2 = (2 : Int32) then
          (ld 6 (cw v2.2 0 13) a1).bind fun x52 =>
          some (.inl (x52, v2.2))
        else
          (X1_jarOf v2.2 a1).bind fun x58 =>
          some (.inl (x58, v2.2))) fun n => some (.inr (n, v2.2))) (fun (u : Nat × Cs) => some (.inr u)) x2
set_option maxHeartbeats 4000000 in
theorem mX1_ink (Λ : Nat → Nat → (Nat → Int32) → Int32) (Λn : Nat → Int32) (τ : Cs) (a1 : Int32) (a2 : Int32) (out : Xo) (hf : X1_ink τ a1 a2 = some out) : CXi yX1_ink cX1_ink 4 (some .int) 12 342 2 12 Λ Λn (fun o aK aF => [.ref o, .int a1, .int a2]) out τ := by
  refine CXi.of (by decide) (fun _ _ _ => Nat.le_of_ble_eq_true rfl) ?_
  intro p l e s m args below meth c D J o z aK aV G Ld aF Q ls hst hx hb hml hown hts hE hT hret hxx hthr hI hl
  obtain ⟨H, eH⟩ : ∃ H, H = s.heap := ⟨_, rfl⟩
  obtain ⟨locs, eL⟩ : ∃ L : List Loc, L = [] := ⟨_, rfl⟩
  rw [← eH, ← eL] at hI ⊢
  have hown : s.vm.findClass RX1 = some m.cls := hown
  have hl : lv_has ls 4 [(0, .ref o), (1, .int a1), (2, .int a2)] := hl
  unfold X1_ink at hf
  refine lv_aload_n hx hb dX1_ink_0 rfl (lv_at hl 0 rfl) ?_
  refine lv_iload_n hx hb dX1_ink_1 rfl (lv_at hl 1 rfl) ?_
  obtain ⟨x2, ex2, hf⟩ := obd hf
  refine xcallV (rest := []) hx hb hts hst hown hE hT hI hml hl.1 (mX1_inkAt Λ Λn τ a1 _ ex2) (cwX1_inkAt_X1 hts ⟨Nat.le_of_ble_eq_true rfl, Nat.le_of_ble_eq_true rfl⟩) (hI.1.o 0 rfl) rfl rfl ⟨Nat.le_of_ble_eq_true rfl, Nat.le_of_ble_eq_true rfl⟩ rfl rfl (lv_room (Nat.le_of_ble_eq_true rfl)) dX1_ink_2 (fun E ce q9 n σ' H locs ho hn hI h1 h2 h3 => by subst ho; have hf := selR hf; exact hxx H locs 2 ls _ _ _ E ce q9 n σ' hI (Option.some.inj hf).symm hn h1 h2 h3 (Nat.le_of_ble_eq_true rfl) (Nat.le_of_ble_eq_true rfl)) (fun v2 H locs ho hI => ?_)
  subst ho
  replace hf := selL hf
  refine lv_iload_n hx hb dX1_ink_5 rfl (lv_at hl 2 rfl) ?_
  refine lv_iconst (v := (3 : Int32)) hx hb dX1_ink_6 (by decide) ?_
  obtain ⟨x7, ex7, hf⟩ := obd hf
  rcases x7 with _ | nx7
  rotate_left
  · replace hf := oelS hf
    exact xcallS (rest := []) hx hb hts hst hown hE hT hI hml hl.1 (mX1_question a2 (3 : Int32) _ ex7) (csX1_question_X1 hts ⟨Nat.le_of_ble_eq_true rfl, Nat.le_of_ble_eq_true rfl⟩) ⟨Nat.le_of_ble_eq_true rfl, Nat.le_of_ble_eq_true rfl⟩ rfl rfl (lv_room (Nat.le_of_ble_eq_true rfl)) dX1_ink_7 (fun E ce q9 n H locs ho hn hI h1 h2 h3 => by cases ho; exact hxx H locs 7 ls _ _ _ E ce q9 _ _ hI (Option.some.inj hf).symm hn h1 h2 h3 (Nat.le_of_ble_eq_true rfl) (Nat.le_of_ble_eq_true rfl)) (fun ho => by cases ho)
  replace hf := oelN hf
  refine tcallSv (rest := []) hx hb hts hown hml hl.1 (nX1_question a2 (3 : Int32) ex7) (dsX1_question_X1 hts ⟨Nat.le_of_ble_eq_true rfl, Nat.le_of_ble_eq_true rfl⟩) ⟨Nat.le_of_ble_eq_true rfl, Nat.le_of_ble_eq_true rfl⟩ rfl rfl (lv_room (Nat.le_of_ble_eq_true rfl)) dX1_ink_7 ?_
  refine lv_aload_n hx hb dX1_ink_10 rfl (lv_at hl 0 rfl) ?_
  refine gget hx hb hts in_X1 hown hE.1.1 (hI.1.o 0 rfl) rfl 0 (by decide) q463 rfl dX1_ink_11 ?_
  refine lv_astore_n (lv' := [(3, .ref (wA o 0)), (0, .ref o), (1, .int a1), (2, .int a2)]) hx hb dX1_ink_14 rfl hl (by decide) rfl (fun ls hl => ?_)
  refine lv_iload_n hx hb dX1_ink_15 rfl (lv_at hl 3 rfl) ?_
  refine lv_if_ne (tgt := 28) hx hb dX1_ink_16 (by decide) (fun hc => ?_) (fun hc => ?_)
  · replace hf := ineg hc hf
    refine lv_iload_n hx hb dX1_ink_28 rfl (lv_at hl 3 rfl) ?_
    refine lv_iconst (v := (1 : Int32)) hx hb dX1_ink_29 (by decide) ?_
    refine lv_icmp_ne (tgt := 42) hx hb dX1_ink_30 (by decide) (fun hc => ?_) (fun hc => ?_)
    · replace hf := ineg hc hf
      refine lv_iload_n hx hb dX1_ink_42 rfl (lv_at hl 3 rfl) ?_
      refine lv_iconst (v := (2 : Int32)) hx hb dX1_ink_43 (by decide) ?_
      refine lv_icmp_ne (tgt := 56) hx hb dX1_ink_44 (by decide) (fun hc => ?_) (fun hc => ?_)
      · replace hf := ineg hc hf
        refine lv_aload_n hx hb dX1_ink_56 rfl (lv_at hl 1 rfl) ?_
        refine lv_iload_n hx hb dX1_ink_57 rfl (lv_at hl 2 rfl) ?_
        obtain ⟨x58, ex58, hf⟩ := obd hf
        refine ccallI (rest := []) hx hb hts hown hE hI hml hl.1 (mX1_jarOf Λ Λn v2.2 a1 _ ex58) (cwX1_jarOf_X1 hts ⟨Nat.le_of_ble_eq_true rfl, Nat.le_of_ble_eq_true rfl⟩) (hI.1.o 0 rfl) rfl rfl ⟨Nat.le_of_ble_eq_true rfl, Nat.le_of_ble_eq_true rfl⟩ rfl rfl (lv_room (Nat.le_of_ble_eq_true rfl)) dX1_ink_58 (fun H locs hI => ?_)
        refine W.widen (k := 2) (n := 12) (Nat.le_of_ble_eq_true rfl) (Nat.le_of_ble_eq_true rfl) ?_
        exact hret H locs 61 ls _ _ hI (Option.some.inj hf).symm dX1_ink_61
      · replace hf := ipos hc hf
        refine lv_aload_n hx hb dX1_ink_47 rfl (lv_at hl 0 rfl) ?_
        refine ggetN hx hb hts in_X2 hown hE.1.1 (hI.1.w 0 (by decide) 0 rfl) rfl 13 (by decide) (hE.1.2.2.f 16 rfl) rfl dX1_ink_48 ?_
        refine lv_iload_n hx hb dX1_ink_51 rfl (lv_at hl 2 rfl) ?_
        obtain ⟨x52, ex52, hf⟩ := obd hf
        refine gald hx hb hE.1.1 0 (hI.1.w 0 (by decide) 5 rfl) rfl ex52 dX1_ink_52 ?_
        refine lv_goto (tgt := 61) hx hb dX1_ink_53 (by decide) ?_
        refine W.widen (k := 2) (n := 12) (Nat.le_of_ble_eq_true rfl) (Nat.le_of_ble_eq_true rfl) ?_
        exact hret H locs 61 ls _ _ hI (Option.some.inj hf).symm dX1_ink_61
    · replace hf := ipos hc hf
      refine lv_aload_n hx hb dX1_ink_33 rfl (lv_at hl 0 rfl) ?_
      refine ggetN hx hb hts in_X2 hown hE.1.1 (hI.1.w 0 (by decide) 0 rfl) rfl 12 (by decide) (hE.1.2.2.f 15 rfl) rfl dX1_ink_34 ?_
      refine lv_iload_n hx hb dX1_ink_37 rfl (lv_at hl 2 rfl) ?_
      obtain ⟨x38, ex38, hf⟩ := obd hf
      refine gald hx hb hE.1.1 0 (hI.1.w 0 (by decide) 4 rfl) rfl ex38 dX1_ink_38 ?_
      refine lv_goto (tgt := 61) hx hb dX1_ink_39 (by decide) ?_
      refine W.widen (k := 2) (n := 12) (Nat.le_of_ble_eq_true rfl) (Nat.le_of_ble_eq_true rfl) ?_
      exact hret H locs 61 ls _ _ hI (Option.some.inj hf).symm dX1_ink_61
  · replace hf := ipos hc hf
    refine lv_aload_n hx hb dX1_ink_19 rfl (lv_at hl 0 rfl) ?_
    refine ggetN hx hb hts in_X2 hown hE.1.1 (hI.1.w 0 (by decide) 0 rfl) rfl 11 (by decide) (hE.1.2.2.f 13 rfl) rfl dX1_ink_20 ?_
    refine lv_iload_n hx hb dX1_ink_23 rfl (lv_at hl 2 rfl) ?_
    obtain ⟨x24, ex24, hf⟩ := obd hf
    refine gald hx hb hE.1.1 0 (hI.1.w 0 (by decide) 3 rfl) rfl ex24 dX1_ink_24 ?_
    refine lv_goto (tgt := 61) hx hb dX1_ink_25 (by decide) ?_
    refine W.widen (k := 2) (n := 12) (Nat.le_of_ble_eq_true rfl) (Nat.le_of_ble_eq_true rfl) ?_
    exact hret H locs 61 ls _ _ hI (Option.some.inj hf).symm dX1_ink_61

theorem cwX1_deedAt_X1 {R : Room} {s : State} {args : Array Value} {fr lo : Nat} (hts : ∀ w ∈ lw_all, w.before args s = true) (hR : fr + 1 ≤ R.frames ∧ 8 + (2 + 11) + lo ≤ R.locals) : CallW R s args RX1 RX1 506 yX1_deedAt cX1_deedAt 2 (none) (ws_ yX1_deedAt cX1_deedAt 2 (none)) ({ frames := fr, cells := 1, slots := 6, locals := lo }) 1 6 1 :=
  cwV 1 hts (lw_V q1755 q1757 qs42 q133 q1758) rfl rfl rfl (by decide +kernel) hR
theorem cwX2_isValid_X1 {R : Room} {s : State} {args : Array Value} {fr lo : Nat} (hts : ∀ w ∈ lw_all, w.before args s = true) (hR : fr + 1 ≤ R.frames ∧ 8 + (3 + 11) + lo ≤ R.locals) : CallW R s args RX1 RX2 528 yX2_isValid cX2_isValid 3 (some .boolean) (ws_ yX2_isValid cX2_isValid 3 (some .boolean)) ({ frames := fr, cells := 0, slots := 0, locals := lo }) 0 0 2 :=
  cwV 2 hts (lw_V q1765 q547 q548 q134 q549) rfl rfl rfl (by decide +kernel) hR
def X1_deed (Λ : Nat → Nat → (Nat → Int32) → Int32) (τ : Cs) (a1 : Int32) (a2 : Int32) : Option Xo :=
  (X1_deedAt τ a1).bind fun x2 =>
  Sum.elim (fun (v2 : Int32 × Cs) =>
    (X1_question a2 (15 : Int32)).bind fun x8 =>
    Option.elim x8 (
    if a2 = (0 : Int32) then
      (ld 8 (cw v2.2 0 16) a1).bind fun x97 =>
      some (.inl (x97, v2.2))
    else
    if a2 = (1 : Int32) then
      (ld 8 (cw v2.2 0 17) a1).bind fun x104 =>
      some (.inl (x104, v2.2))
    else
    if a2 = (2 : Int32) then
      (ld 8 (cw v2.2 0 18) a1).bind fun x111 =>
      some (.inl (x111, v2.2))
    else
    if a2 = (3 : Int32) then
      (ld 8 (cw v2.2 0 19) a1).bind fun x118 =>
      some (.inl (x118, v2.2))
    else
    if a2 = (4 : Int32) then
      (ld 8 (cw v2.2 0 20) a1).bind fun x125 =>
      some (.inl (x125, v2.2))
    else
    if a2 = (5 : Int32) then
      (ld 8 (cw v2.2 0 21) a1).bind fun x132 =>
      some (.inl (x132, v2.2))
    else
    if a2 = (6 : Int32) then
      (ld 8 (cw v2.2 0 22) a1).bind fun x139 =>
      some (.inl (x139, v2.2))
    else
    if a2 = (7 : Int32) then
      (ld 8 (cw v2.2 0 23) a1).bind fun x146 =>
      some (.inl (x146, v2.2))
    else
    if a2 = (8 : Int32) then
      (ld 8 (cw v2.2 0 24) a1).bind fun x153 =>
      some (.inl (x153, v2.2))
    else
    if a2 = (9 : Int32) then
      (ld 8 (cw v2.2 0 25) a1).bind fun x160 =>
      some (.inl (x160, v2.2))
    else
    if a2 = (10 : Int32) then
      (ld 8 (cw v2.2 0 26) a1).bind fun x167 =>
      some (.inl (x167, v2.2))
    else
    if a2 = (11 : Int32) then
      (ld 8 (cw v2.2 0 15) a1).bind fun x174 =>
      if x174 = (0 : Int32) then
        some (.inl ((0 : Int32), v2.2))
      else
        some (.inl ((1 : Int32), v2.2))
    else
    if a2 = (12 : Int32) then
      (X1_ripensBy Λ v2.2 0 a1).bind fun x187 =>
      some (.inl (x187.1, x187.2))
    else
    if a2 = (13 : Int32) then
      (X1_costsOf Λ v2.2 0 a1).bind fun x194 =>
      some (.inl (x194.1, x194.2))
    else
    if a2 = (14 : Int32) then
      (X2_of (cw v2.2 0) (1 : Int32)).bind fun x202 =>
      (X2_isValid (cw v2.2 0) a1 x202).bind fun x205 =>
      if x205 = (0 : Int32) then
        some (.inl ((0 : Int32), v2.2))
      else
        some (.inl ((1 : Int32), v2.2))
    else
    (X1_priceOf Λ v2.2 a1).bind fun x219 =>
    some (.inl (x219.1, x219.2))) fun n => some (.inr (n, v2.2))) (fun (u : Nat × Cs) => some (.inr u)) x2
set_option maxHeartbeats 4000000 in
theorem mX1_deed (Λ : Nat → Nat → (Nat → Int32) → Int32) (Λn : Nat → Int32) (τ : Cs) (a1 : Int32) (a2 : Int32) (out : Xo) (hf : X1_deed Λ τ a1 a2 = some out) : CXi yX1_deed cX1_deed 4 (some .int) 66 3138 2 12 Λ Λn (fun o aK aF => [.ref o, .int a1, .int a2]) out τ := by
  refine CXi.of (by decide) (fun _ _ _ => Nat.le_of_ble_eq_true rfl) ?_
  intro p l e s m args below meth c D J o z aK aV G Ld aF Q ls hst hx hb hml hown hts hE hT hret hxx hthr hI hl
  obtain ⟨H, eH⟩ : ∃ H, H = s.heap := ⟨_, rfl⟩
  obtain ⟨locs, eL⟩ : ∃ L : List Loc, L = [] := ⟨_, rfl⟩
  rw [← eH, ← eL] at hI ⊢
  have hown : s.vm.findClass RX1 = some m.cls := hown
  have hl : lv_has ls 4 [(0, .ref o), (1, .int a1), (2, .int a2)] := hl
  unfold X1_deed at hf
  refine lv_aload_n hx hb dX1_deed_0 rfl (lv_at hl 0 rfl) ?_
  refine lv_iload_n hx hb dX1_deed_1 rfl (lv_at hl 1 rfl) ?_
  obtain ⟨x2, ex2, hf⟩ := obd hf
  refine xcallV (rest := []) hx hb hts hst hown hE hT hI hml hl.1 (mX1_deedAt Λ Λn τ a1 _ ex2) (cwX1_deedAt_X1 hts ⟨Nat.le_of_ble_eq_true rfl, Nat.le_of_ble_eq_true rfl⟩) (hI.1.o 0 rfl) rfl rfl ⟨Nat.le_of_ble_eq_true rfl, Nat.le_of_ble_eq_true rfl⟩ rfl rfl (lv_room (Nat.le_of_ble_eq_true rfl)) dX1_deed_2 (fun E ce q9 n σ' H locs ho hn hI h1 h2 h3 => by subst ho; have hf := selR hf; exact hxx H locs 2 ls _ _ _ E ce q9 n σ' hI (Option.some.inj hf).symm hn h1 h2 h3 (Nat.le_of_ble_eq_true rfl) (Nat.le_of_ble_eq_true rfl)) (fun v2 H locs ho hI => ?_)
  subst ho
  replace hf := selL hf
  refine lv_iload_n hx hb dX1_deed_5 rfl (lv_at hl 2 rfl) ?_
  refine lv_bipush (v := (15 : Int32)) hx hb dX1_deed_6 (by decide) ?_
  obtain ⟨x8, ex8, hf⟩ := obd hf
  rcases x8 with _ | nx8
  rotate_left
  · replace hf := oelS hf
    exact xcallS (rest := []) hx hb hts hst hown hE hT hI hml hl.1 (mX1_question a2 (15 : Int32) _ ex8) (csX1_question_X1 hts ⟨Nat.le_of_ble_eq_true rfl, Nat.le_of_ble_eq_true rfl⟩) ⟨Nat.le_of_ble_eq_true rfl, Nat.le_of_ble_eq_true rfl⟩ rfl rfl (lv_room (Nat.le_of_ble_eq_true rfl)) dX1_deed_8 (fun E ce q9 n H locs ho hn hI h1 h2 h3 => by cases ho; exact hxx H locs 8 ls _ _ _ E ce q9 _ _ hI (Option.some.inj hf).symm hn h1 h2 h3 (Nat.le_of_ble_eq_true rfl) (Nat.le_of_ble_eq_true rfl)) (fun ho => by cases ho)
  replace hf := oelN hf
  refine tcallSv (rest := []) hx hb hts hown hml hl.1 (nX1_question a2 (15 : Int32) ex8) (dsX1_question_X1 hts ⟨Nat.le_of_ble_eq_true rfl, Nat.le_of_ble_eq_true rfl⟩) ⟨Nat.le_of_ble_eq_true rfl, Nat.le_of_ble_eq_true rfl⟩ rfl rfl (lv_room (Nat.le_of_ble_eq_true rfl)) dX1_deed_8 ?_
  refine lv_aload_n hx hb dX1_deed_11 rfl (lv_at hl 0 rfl) ?_
  refine gget hx hb hts in_X1 hown hE.1.1 (hI.1.o 0 rfl) rfl 0 (by decide) q463 rfl dX1_deed_12 ?_
  refine lv_astore_n (lv' := [(3, .ref (wA o 0)), (0, .ref o), (1, .int a1), (2, .int a2)]) hx hb dX1_deed_15 rfl hl (by decide) rfl (fun ls hl => ?_)
  refine lv_iload_n hx hb dX1_deed_16 rfl (lv_at hl 3 rfl) ?_
  by_cases hs17_0 : a2 = (0 : Int32)
  · replace hf := ipos hs17_0 hf
    refine lv_tableIn (off := 75) (tgt := 92) hx hb dX1_deed_17 (by rw [hs17_0]; decide) (by rw [hs17_0]; decide) (by rw [hs17_0]; rfl) (by decide) ?_
    refine lv_aload_n hx hb dX1_deed_92 rfl (lv_at hl 0 rfl) ?_
    refine ggetN hx hb hts in_X2 hown hE.1.1 (hI.1.w 0 (by decide) 0 rfl) rfl 16 (by decide) (hE.1.2.2.f 20 rfl) rfl dX1_deed_93 ?_
    refine lv_iload_n hx hb dX1_deed_96 rfl (lv_at hl 2 rfl) ?_
    obtain ⟨x97, ex97, hf⟩ := obd hf
    refine gald hx hb hE.1.1 0 (hI.1.w 0 (by decide) 8 rfl) rfl ex97 dX1_deed_97 ?_
    refine W.widen (k := 2) (n := 12) (Nat.le_of_ble_eq_true rfl) (Nat.le_of_ble_eq_true rfl) ?_
    exact hret H locs 98 ls _ _ hI (Option.some.inj hf).symm dX1_deed_98
  replace hf := ineg hs17_0 hf
  by_cases hs17_1 : a2 = (1 : Int32)
  · replace hf := ipos hs17_1 hf
    refine lv_tableIn (off := 82) (tgt := 99) hx hb dX1_deed_17 (by rw [hs17_1]; decide) (by rw [hs17_1]; decide) (by rw [hs17_1]; rfl) (by decide) ?_
    refine lv_aload_n hx hb dX1_deed_99 rfl (lv_at hl 0 rfl) ?_
    refine ggetN hx hb hts in_X2 hown hE.1.1 (hI.1.w 0 (by decide) 0 rfl) rfl 17 (by decide) (hE.1.2.2.f 22 rfl) rfl dX1_deed_100 ?_
    refine lv_iload_n hx hb dX1_deed_103 rfl (lv_at hl 2 rfl) ?_
    obtain ⟨x104, ex104, hf⟩ := obd hf
    refine gald hx hb hE.1.1 0 (hI.1.w 0 (by decide) 9 rfl) rfl ex104 dX1_deed_104 ?_
    refine W.widen (k := 2) (n := 12) (Nat.le_of_ble_eq_true rfl) (Nat.le_of_ble_eq_true rfl) ?_
    exact hret H locs 105 ls _ _ hI (Option.some.inj hf).symm dX1_deed_105
  replace hf := ineg hs17_1 hf
  by_cases hs17_2 : a2 = (2 : Int32)
  · replace hf := ipos hs17_2 hf
    refine lv_tableIn (off := 89) (tgt := 106) hx hb dX1_deed_17 (by rw [hs17_2]; decide) (by rw [hs17_2]; decide) (by rw [hs17_2]; rfl) (by decide) ?_
    refine lv_aload_n hx hb dX1_deed_106 rfl (lv_at hl 0 rfl) ?_
    refine ggetN hx hb hts in_X2 hown hE.1.1 (hI.1.w 0 (by decide) 0 rfl) rfl 18 (by decide) (hE.1.2.2.f 24 rfl) rfl dX1_deed_107 ?_
    refine lv_iload_n hx hb dX1_deed_110 rfl (lv_at hl 2 rfl) ?_
    obtain ⟨x111, ex111, hf⟩ := obd hf
    refine gald hx hb hE.1.1 0 (hI.1.w 0 (by decide) 10 rfl) rfl ex111 dX1_deed_111 ?_
    refine W.widen (k := 2) (n := 12) (Nat.le_of_ble_eq_true rfl) (Nat.le_of_ble_eq_true rfl) ?_
    exact hret H locs 112 ls _ _ hI (Option.some.inj hf).symm dX1_deed_112
  replace hf := ineg hs17_2 hf
  by_cases hs17_3 : a2 = (3 : Int32)
  · replace hf := ipos hs17_3 hf
    refine lv_tableIn (off := 96) (tgt := 113) hx hb dX1_deed_17 (by rw [hs17_3]; decide) (by rw [hs17_3]; decide) (by rw [hs17_3]; rfl) (by decide) ?_
    refine lv_aload_n hx hb dX1_deed_113 rfl (lv_at hl 0 rfl) ?_
    refine ggetN hx hb hts in_X2 hown hE.1.1 (hI.1.w 0 (by decide) 0 rfl) rfl 19 (by decide) (hE.1.2.2.f 26 rfl) rfl dX1_deed_114 ?_
    refine lv_iload_n hx hb dX1_deed_117 rfl (lv_at hl 2 rfl) ?_
    obtain ⟨x118, ex118, hf⟩ := obd hf
    refine gald hx hb hE.1.1 0 (hI.1.w 0 (by decide) 11 rfl) rfl ex118 dX1_deed_118 ?_
    refine W.widen (k := 2) (n := 12) (Nat.le_of_ble_eq_true rfl) (Nat.le_of_ble_eq_true rfl) ?_
    exact hret H locs 119 ls _ _ hI (Option.some.inj hf).symm dX1_deed_119
  replace hf := ineg hs17_3 hf
  by_cases hs17_4 : a2 = (4 : Int32)
  · replace hf := ipos hs17_4 hf
    refine lv_tableIn (off := 103) (tgt := 120) hx hb dX1_deed_17 (by rw [hs17_4]; decide) (by rw [hs17_4]; decide) (by rw [hs17_4]; rfl) (by decide) ?_
    refine lv_aload_n hx hb dX1_deed_120 rfl (lv_at hl 0 rfl) ?_
    refine ggetN hx hb hts in_X2 hown hE.1.1 (hI.1.w 0 (by decide) 0 rfl) rfl 20 (by decide) (hE.1.2.2.f 27 rfl) rfl dX1_deed_121 ?_
    refine lv_iload_n hx hb dX1_deed_124 rfl (lv_at hl 2 rfl) ?_
    obtain ⟨x125, ex125, hf⟩ := obd hf
    refine gald hx hb hE.1.1 0 (hI.1.w 0 (by decide) 12 rfl) rfl ex125 dX1_deed_125 ?_
    refine W.widen (k := 2) (n := 12) (Nat.le_of_ble_eq_true rfl) (Nat.le_of_ble_eq_true rfl) ?_
    exact hret H locs 126 ls _ _ hI (Option.some.inj hf).symm dX1_deed_126
  replace hf := ineg hs17_4 hf
  by_cases hs17_5 : a2 = (5 : Int32)
  · replace hf := ipos hs17_5 hf
    refine lv_tableIn (off := 110) (tgt := 127) hx hb dX1_deed_17 (by rw [hs17_5]; decide) (by rw [hs17_5]; decide) (by rw [hs17_5]; rfl) (by decide) ?_
    refine lv_aload_n hx hb dX1_deed_127 rfl (lv_at hl 0 rfl) ?_
    refine ggetN hx hb hts in_X2 hown hE.1.1 (hI.1.w 0 (by decide) 0 rfl) rfl 21 (by decide) (hE.1.2.2.f 28 rfl) rfl dX1_deed_128 ?_
    refine lv_iload_n hx hb dX1_deed_131 rfl (lv_at hl 2 rfl) ?_
    obtain ⟨x132, ex132, hf⟩ := obd hf
    refine gald hx hb hE.1.1 0 (hI.1.w 0 (by decide) 13 rfl) rfl ex132 dX1_deed_132 ?_
    refine W.widen (k := 2) (n := 12) (Nat.le_of_ble_eq_true rfl) (Nat.le_of_ble_eq_true rfl) ?_
    exact hret H locs 133 ls _ _ hI (Option.some.inj hf).symm dX1_deed_133
  replace hf := ineg hs17_5 hf
  by_cases hs17_6 : a2 = (6 : Int32)
  · replace hf := ipos hs17_6 hf
    refine lv_tableIn (off := 117) (tgt := 134) hx hb dX1_deed_17 (by rw [hs17_6]; decide) (by rw [hs17_6]; decide) (by rw [hs17_6]; rfl) (by decide) ?_
    refine lv_aload_n hx hb dX1_deed_134 rfl (lv_at hl 0 rfl) ?_
    refine ggetN hx hb hts in_X2 hown hE.1.1 (hI.1.w 0 (by decide) 0 rfl) rfl 22 (by decide) (hE.1.2.2.f 29 rfl) rfl dX1_deed_135 ?_
    refine lv_iload_n hx hb dX1_deed_138 rfl (lv_at hl 2 rfl) ?_
    obtain ⟨x139, ex139, hf⟩ := obd hf
    refine gald hx hb hE.1.1 0 (hI.1.w 0 (by decide) 14 rfl) rfl ex139 dX1_deed_139 ?_
    refine W.widen (k := 2) (n := 12) (Nat.le_of_ble_eq_true rfl) (Nat.le_of_ble_eq_true rfl) ?_
    exact hret H locs 140 ls _ _ hI (Option.some.inj hf).symm dX1_deed_140
  replace hf := ineg hs17_6 hf
  by_cases hs17_7 : a2 = (7 : Int32)
  · replace hf := ipos hs17_7 hf
    refine lv_tableIn (off := 124) (tgt := 141) hx hb dX1_deed_17 (by rw [hs17_7]; decide) (by rw [hs17_7]; decide) (by rw [hs17_7]; rfl) (by decide) ?_
    refine lv_aload_n hx hb dX1_deed_141 rfl (lv_at hl 0 rfl) ?_
    refine ggetN hx hb hts in_X2 hown hE.1.1 (hI.1.w 0 (by decide) 0 rfl) rfl 23 (by decide) (hE.1.2.2.f 30 rfl) rfl dX1_deed_142 ?_
    refine lv_iload_n hx hb dX1_deed_145 rfl (lv_at hl 2 rfl) ?_
    obtain ⟨x146, ex146, hf⟩ := obd hf
    refine gald hx hb hE.1.1 0 (hI.1.w 0 (by decide) 15 rfl) rfl ex146 dX1_deed_146 ?_
    refine W.widen (k := 2) (n := 12) (Nat.le_of_ble_eq_true rfl) (Nat.le_of_ble_eq_true rfl) ?_
    exact hret H locs 147 ls _ _ hI (Option.some.inj hf).symm dX1_deed_147
  replace hf := ineg hs17_7 hf
  by_cases hs17_8 : a2 = (8 : Int32)
  · replace hf := ipos hs17_8 hf
    refine lv_tableIn (off := 131) (tgt := 148) hx hb dX1_deed_17 (by rw [hs17_8]; decide) (by rw [hs17_8]; decide) (by rw [hs17_8]; rfl) (by decide) ?_
    refine lv_aload_n hx hb dX1_deed_148 rfl (lv_at hl 0 rfl) ?_
    refine ggetN hx hb hts in_X2 hown hE.1.1 (hI.1.w 0 (by decide) 0 rfl) rfl 24 (by decide) (hE.1.2.2.f 31 rfl) rfl dX1_deed_149 ?_
    refine lv_iload_n hx hb dX1_deed_152 rfl (lv_at hl 2 rfl) ?_
    obtain ⟨x153, ex153, hf⟩ := obd hf
    refine gald hx hb hE.1.1 0 (hI.1.w 0 (by decide) 16 rfl) rfl ex153 dX1_deed_153 ?_
    refine W.widen (k := 2) (n := 12) (Nat.le_of_ble_eq_true rfl) (Nat.le_of_ble_eq_true rfl) ?_
    exact hret H locs 154 ls _ _ hI (Option.some.inj hf).symm dX1_deed_154
  replace hf := ineg hs17_8 hf
  by_cases hs17_9 : a2 = (9 : Int32)
  · replace hf := ipos hs17_9 hf
    refine lv_tableIn (off := 138) (tgt := 155) hx hb dX1_deed_17 (by rw [hs17_9]; decide) (by rw [hs17_9]; decide) (by rw [hs17_9]; rfl) (by decide) ?_
    refine lv_aload_n hx hb dX1_deed_155 rfl (lv_at hl 0 rfl) ?_
    refine ggetN hx hb hts in_X2 hown hE.1.1 (hI.1.w 0 (by decide) 0 rfl) rfl 25 (by decide) (hE.1.2.2.f 32 rfl) rfl dX1_deed_156 ?_
    refine lv_iload_n hx hb dX1_deed_159 rfl (lv_at hl 2 rfl) ?_
    obtain ⟨x160, ex160, hf⟩ := obd hf
    refine gald hx hb hE.1.1 0 (hI.1.w 0 (by decide) 17 rfl) rfl ex160 dX1_deed_160 ?_
    refine W.widen (k := 2) (n := 12) (Nat.le_of_ble_eq_true rfl) (Nat.le_of_ble_eq_true rfl) ?_
    exact hret H locs 161 ls _ _ hI (Option.some.inj hf).symm dX1_deed_161
  replace hf := ineg hs17_9 hf
  by_cases hs17_10 : a2 = (10 : Int32)
  · replace hf := ipos hs17_10 hf
    refine lv_tableIn (off := 145) (tgt := 162) hx hb dX1_deed_17 (by rw [hs17_10]; decide) (by rw [hs17_10]; decide) (by rw [hs17_10]; rfl) (by decide) ?_
    refine lv_aload_n hx hb dX1_deed_162 rfl (lv_at hl 0 rfl) ?_
    refine ggetN hx hb hts in_X2 hown hE.1.1 (hI.1.w 0 (by decide) 0 rfl) rfl 26 (by decide) (hE.1.2.2.f 33 rfl) rfl dX1_deed_163 ?_
    refine lv_iload_n hx hb dX1_deed_166 rfl (lv_at hl 2 rfl) ?_
    obtain ⟨x167, ex167, hf⟩ := obd hf
    refine gald hx hb hE.1.1 0 (hI.1.w 0 (by decide) 18 rfl) rfl ex167 dX1_deed_167 ?_
    refine W.widen (k := 2) (n := 12) (Nat.le_of_ble_eq_true rfl) (Nat.le_of_ble_eq_true rfl) ?_
    exact hret H locs 168 ls _ _ hI (Option.some.inj hf).symm dX1_deed_168
  replace hf := ineg hs17_10 hf
  by_cases hs17_11 : a2 = (11 : Int32)
  · replace hf := ipos hs17_11 hf
    refine lv_tableIn (off := 152) (tgt := 169) hx hb dX1_deed_17 (by rw [hs17_11]; decide) (by rw [hs17_11]; decide) (by rw [hs17_11]; rfl) (by decide) ?_
    refine lv_aload_n hx hb dX1_deed_169 rfl (lv_at hl 0 rfl) ?_
    refine ggetN hx hb hts in_X2 hown hE.1.1 (hI.1.w 0 (by decide) 0 rfl) rfl 15 (by decide) (hE.1.2.2.f 19 rfl) rfl dX1_deed_170 ?_
    refine lv_iload_n hx hb dX1_deed_173 rfl (lv_at hl 2 rfl) ?_
    obtain ⟨x174, ex174, hf⟩ := obd hf
    refine gzld hx hb hE.1.1 1 (hI.1.w 0 (by decide) 7 rfl) rfl ex174 dX1_deed_174 ?_
    refine lv_if_eq (tgt := 182) hx hb dX1_deed_175 (by decide) (fun hc => ?_) (fun hc => ?_)
    · replace hf := ipos hc hf
      refine lv_iconst (v := (0 : Int32)) hx hb dX1_deed_182 (by decide) ?_
      refine W.widen (k := 2) (n := 12) (Nat.le_of_ble_eq_true rfl) (Nat.le_of_ble_eq_true rfl) ?_
      exact hret H locs 183 ls _ _ hI (Option.some.inj hf).symm dX1_deed_183
    · replace hf := ineg hc hf
      refine lv_iconst (v := (1 : Int32)) hx hb dX1_deed_178 (by decide) ?_
      refine lv_goto (tgt := 183) hx hb dX1_deed_179 (by decide) ?_
      refine W.widen (k := 2) (n := 12) (Nat.le_of_ble_eq_true rfl) (Nat.le_of_ble_eq_true rfl) ?_
      exact hret H locs 183 ls _ _ hI (Option.some.inj hf).symm dX1_deed_183
  replace hf := ineg hs17_11 hf
  by_cases hs17_12 : a2 = (12 : Int32)
  · replace hf := ipos hs17_12 hf
    refine lv_tableIn (off := 167) (tgt := 184) hx hb dX1_deed_17 (by rw [hs17_12]; decide) (by rw [hs17_12]; decide) (by rw [hs17_12]; rfl) (by decide) ?_
    refine lv_aload_n hx hb dX1_deed_184 rfl (lv_at hl 1 rfl) ?_
    refine lv_aload_n hx hb dX1_deed_185 rfl (lv_at hl 0 rfl) ?_
    refine lv_iload_n hx hb dX1_deed_186 rfl (lv_at hl 2 rfl) ?_
    obtain ⟨x187, ex187, hf⟩ := obd hf
    refine ccallI (rest := []) hx hb hts hown hE hI hml hl.1 (mX1_ripensBy Λ Λn v2.2 0 a1 (by decide) _ _ ex187) (cwX1_ripensBy_X1 hts ⟨Nat.le_of_ble_eq_true rfl, Nat.le_of_ble_eq_true rfl⟩) (hI.1.o 0 rfl) rfl rfl ⟨Nat.le_of_ble_eq_true rfl, Nat.le_of_ble_eq_true rfl⟩ rfl rfl (lv_room (Nat.le_of_ble_eq_true rfl)) dX1_deed_187 (fun H locs hI => ?_)
    refine W.widen (k := 2) (n := 12) (Nat.le_of_ble_eq_true rfl) (Nat.le_of_ble_eq_true rfl) ?_
    exact hret H locs 190 ls _ _ hI (Option.some.inj hf).symm dX1_deed_190
  replace hf := ineg hs17_12 hf
  by_cases hs17_13 : a2 = (13 : Int32)
  · replace hf := ipos hs17_13 hf
    refine lv_tableIn (off := 174) (tgt := 191) hx hb dX1_deed_17 (by rw [hs17_13]; decide) (by rw [hs17_13]; decide) (by rw [hs17_13]; rfl) (by decide) ?_
    refine lv_aload_n hx hb dX1_deed_191 rfl (lv_at hl 1 rfl) ?_
    refine lv_aload_n hx hb dX1_deed_192 rfl (lv_at hl 0 rfl) ?_
    refine lv_iload_n hx hb dX1_deed_193 rfl (lv_at hl 2 rfl) ?_
    obtain ⟨x194, ex194, hf⟩ := obd hf
    refine ccallI (rest := []) hx hb hts hown hE hI hml hl.1 (mX1_costsOf Λ Λn v2.2 0 a1 (by decide) _ _ ex194) (cwX1_costsOf_X1 hts ⟨Nat.le_of_ble_eq_true rfl, Nat.le_of_ble_eq_true rfl⟩) (hI.1.o 0 rfl) rfl rfl ⟨Nat.le_of_ble_eq_true rfl, Nat.le_of_ble_eq_true rfl⟩ rfl rfl (lv_room (Nat.le_of_ble_eq_true rfl)) dX1_deed_194 (fun H locs hI => ?_)
    refine W.widen (k := 2) (n := 12) (Nat.le_of_ble_eq_true rfl) (Nat.le_of_ble_eq_true rfl) ?_
    exact hret H locs 197 ls _ _ hI (Option.some.inj hf).symm dX1_deed_197
  replace hf := ineg hs17_13 hf
  by_cases hs17_14 : a2 = (14 : Int32)
  · replace hf := ipos hs17_14 hf
    refine lv_tableIn (off := 181) (tgt := 198) hx hb dX1_deed_17 (by rw [hs17_14]; decide) (by rw [hs17_14]; decide) (by rw [hs17_14]; rfl) (by decide) ?_
    refine lv_aload_n hx hb dX1_deed_198 rfl (lv_at hl 0 rfl) ?_
    refine lv_iload_n hx hb dX1_deed_199 rfl (lv_at hl 2 rfl) ?_
    refine lv_aload_n hx hb dX1_deed_200 rfl (lv_at hl 0 rfl) ?_
    refine lv_iconst (v := (1 : Int32)) hx hb dX1_deed_201 (by decide) ?_
    obtain ⟨x202, ex202, hf⟩ := obd hf
    refine cworldI (rest := [.int a1, .ref (wA o 0)]) hx hb hts hown hE hI hml hl.1 (mX2_of (cw v2.2 0) (1 : Int32) _ ex202) (by decide) (cwX2_of_X1 hts ⟨Nat.le_of_ble_eq_true rfl, Nat.le_of_ble_eq_true rfl⟩) (congrArg some (cwu_self v2.2 0)) ⟨Nat.le_of_ble_eq_true rfl, Nat.le_of_ble_eq_true rfl⟩ rfl rfl (lv_room (Nat.le_of_ble_eq_true rfl)) dX1_deed_202 (fun H locs hI => ?_)
    obtain ⟨x205, ex205, hf⟩ := obd hf
    refine cworldI (rest := []) hx hb hts hown hE hI hml hl.1 (mX2_isValid (cw v2.2 0) a1 x202 _ ex205) (by decide) (cwX2_isValid_X1 hts ⟨Nat.le_of_ble_eq_true rfl, Nat.le_of_ble_eq_true rfl⟩) (congrArg some (cwu_self v2.2 0)) ⟨Nat.le_of_ble_eq_true rfl, Nat.le_of_ble_eq_true rfl⟩ rfl rfl (lv_room (Nat.le_of_ble_eq_true rfl)) dX1_deed_205 (fun H locs hI => ?_)
    refine lv_if_eq (tgt := 215) hx hb dX1_deed_208 (by decide) (fun hc => ?_) (fun hc => ?_)
    · replace hf := ipos hc hf
      refine lv_iconst (v := (0 : Int32)) hx hb dX1_deed_215 (by decide) ?_
      refine W.widen (k := 2) (n := 12) (Nat.le_of_ble_eq_true rfl) (Nat.le_of_ble_eq_true rfl) ?_
      exact hret H locs 216 ls _ _ hI (Option.some.inj hf).symm dX1_deed_216
    · replace hf := ineg hc hf
      refine lv_iconst (v := (1 : Int32)) hx hb dX1_deed_211 (by decide) ?_
      refine lv_goto (tgt := 216) hx hb dX1_deed_212 (by decide) ?_
      refine W.widen (k := 2) (n := 12) (Nat.le_of_ble_eq_true rfl) (Nat.le_of_ble_eq_true rfl) ?_
      exact hret H locs 216 ls _ _ hI (Option.some.inj hf).symm dX1_deed_216
  replace hf := ineg hs17_14 hf
  refine lv_tableOut (tgt := 217) hx hb dX1_deed_17 (tswOut (n := 14) (by decide) (fun k hk => ?_)) (by decide) ?_
  · match k, hk with
    | 0, _ => exact hs17_0
    | 1, _ => exact hs17_1
    | 2, _ => exact hs17_2
    | 3, _ => exact hs17_3
    | 4, _ => exact hs17_4
    | 5, _ => exact hs17_5
    | 6, _ => exact hs17_6
    | 7, _ => exact hs17_7
    | 8, _ => exact hs17_8
    | 9, _ => exact hs17_9
    | 10, _ => exact hs17_10
    | 11, _ => exact hs17_11
    | 12, _ => exact hs17_12
    | 13, _ => exact hs17_13
    | 14, _ => exact hs17_14
  refine lv_aload_n hx hb dX1_deed_217 rfl (lv_at hl 1 rfl) ?_
  refine lv_iload_n hx hb dX1_deed_218 rfl (lv_at hl 2 rfl) ?_
  obtain ⟨x219, ex219, hf⟩ := obd hf
  refine ccallI (rest := []) hx hb hts hown hE hI hml hl.1 (mX1_priceOf Λ Λn v2.2 a1 _ _ ex219) (cwX1_priceOf_X1 hts ⟨Nat.le_of_ble_eq_true rfl, Nat.le_of_ble_eq_true rfl⟩) (hI.1.o 0 rfl) rfl rfl ⟨Nat.le_of_ble_eq_true rfl, Nat.le_of_ble_eq_true rfl⟩ rfl rfl (lv_room (Nat.le_of_ble_eq_true rfl)) dX1_deed_219 (fun H locs hI => ?_)
  refine W.widen (k := 2) (n := 12) (Nat.le_of_ble_eq_true rfl) (Nat.le_of_ble_eq_true rfl) ?_
  exact hret H locs 222 ls _ _ hI (Option.some.inj hf).symm dX1_deed_222

def X1_when (Λ : Nat → Nat → (Nat → Int32) → Int32) (τ : Cs) (a1 : Int32) : Option Xo :=
  (X1_deedAt τ a1).bind fun x2 =>
  Sum.elim (fun (v2 : Int32 × Cs) =>
    (X1_whenOf Λ v2.2 a1 (0 : Int32)).bind fun x8 =>
    some (.inl (x8.1, x8.2))) (fun (u : Nat × Cs) => some (.inr u)) x2
set_option maxHeartbeats 4000000 in
theorem mX1_when (Λ : Nat → Nat → (Nat → Int32) → Int32) (Λn : Nat → Int32) (τ : Cs) (a1 : Int32) (out : Xo) (hf : X1_when Λ τ a1 = some out) : CXi yX1_when cX1_when 2 (some .int) 65 3116 1 6 Λ Λn (fun o aK aF => [.ref o, .int a1]) out τ := by
  refine CXi.of (by decide) (fun _ _ _ => Nat.le_of_ble_eq_true rfl) ?_
  intro p l e s m args below meth c D J o z aK aV G Ld aF Q ls hst hx hb hml hown hts hE hT hret hxx hthr hI hl
  obtain ⟨H, eH⟩ : ∃ H, H = s.heap := ⟨_, rfl⟩
  obtain ⟨locs, eL⟩ : ∃ L : List Loc, L = [] := ⟨_, rfl⟩
  rw [← eH, ← eL] at hI ⊢
  have hown : s.vm.findClass RX1 = some m.cls := hown
  have hl : lv_has ls 2 [(0, .ref o), (1, .int a1)] := hl
  unfold X1_when at hf
  refine lv_aload_n hx hb dX1_when_0 rfl (lv_at hl 0 rfl) ?_
  refine lv_iload_n hx hb dX1_when_1 rfl (lv_at hl 1 rfl) ?_
  obtain ⟨x2, ex2, hf⟩ := obd hf
  refine xcallV (rest := []) hx hb hts hst hown hE hT hI hml hl.1 (mX1_deedAt Λ Λn τ a1 _ ex2) (cwX1_deedAt_X1 hts ⟨Nat.le_of_ble_eq_true rfl, Nat.le_of_ble_eq_true rfl⟩) (hI.1.o 0 rfl) rfl rfl ⟨Nat.le_of_ble_eq_true rfl, Nat.le_of_ble_eq_true rfl⟩ rfl rfl (lv_room (Nat.le_of_ble_eq_true rfl)) dX1_when_2 (fun E ce q9 n σ' H locs ho hn hI h1 h2 h3 => by subst ho; have hf := selR hf; exact hxx H locs 2 ls _ _ _ E ce q9 n σ' hI (Option.some.inj hf).symm hn h1 h2 h3 (Nat.le_of_ble_eq_true rfl) (Nat.le_of_ble_eq_true rfl)) (fun v2 H locs ho hI => ?_)
  subst ho
  replace hf := selL hf
  refine lv_aload_n hx hb dX1_when_5 rfl (lv_at hl 0 rfl) ?_
  refine lv_iload_n hx hb dX1_when_6 rfl (lv_at hl 1 rfl) ?_
  refine lv_iconst (v := (0 : Int32)) hx hb dX1_when_7 (by decide) ?_
  obtain ⟨x8, ex8, hf⟩ := obd hf
  refine ccallI (rest := []) hx hb hts hown hE hI hml hl.1 (mX1_whenOf Λ Λn v2.2 a1 (0 : Int32) _ _ ex8) (cwX1_whenOf_X1 hts ⟨Nat.le_of_ble_eq_true rfl, Nat.le_of_ble_eq_true rfl⟩) (hI.1.o 0 rfl) rfl rfl ⟨Nat.le_of_ble_eq_true rfl, Nat.le_of_ble_eq_true rfl⟩ rfl rfl (lv_room (Nat.le_of_ble_eq_true rfl)) dX1_when_8 (fun H locs hI => ?_)
  exact hret H locs 11 ls _ _ hI (Option.some.inj hf).symm dX1_when_11

def X1_due_L13 (Λ : Nat → Nat → (Nat → Int32) → Int32) (c1 : Int32) (w13 : Cs × Int32) : Option ((Cs × Int32) ⊕ ((Cs × Int32) ⊕ (Cs))) :=
  if (80 : Int32) < w13.2 then
    some (.inr (.inr w13.1))
  else
    (ld 8 (cw w13.1 3 15) c1).bind fun x27 =>
    if x27 = (0 : Int32) then
      (X1_aSeason Λ w13.1 3 (0 : Int32)).bind fun x39 =>
      (some (w13.2 + (1 : Int32))).bind fun v43 =>
      some (.inl (x39.2, v43))
    else
      some (.inr (.inl (w13.1, w13.2)))
def X1_due (Λ : Nat → Nat → (Nat → Int32) → Int32) (τ : Cs) (a1 : Int32) : Option Xo :=
  (X1_deedAt τ a1).bind fun x2 =>
  Sum.elim (fun (v2 : Int32 × Cs) =>
    (X1_worldAt Λ v2.2 (0 : Int32)).bind fun t7 =>
    (loopO (X1_due_L13 Λ a1) FU (t7, (0 : Int32))).bind fun e13 =>
    Sum.elim (fun e13 =>
      some (.inl (e13.2, e13.1))) (fun e13 =>
      some (.inl ((-1 : Int32), e13))) e13) (fun (u : Nat × Cs) => some (.inr u)) x2
set_option maxHeartbeats 4000000 in
theorem mX1_due (Λ : Nat → Nat → (Nat → Int32) → Int32) (Λn : Nat → Int32) (τ : Cs) (a1 : Int32) (out : Xo) (hf : X1_due Λ τ a1 = some out) : CXi yX1_due cX1_due 3 (some .int) 65 3115 1 6 Λ Λn (fun o aK aF => [.ref o, .int a1]) out τ := by
  refine CXi.of (by decide) (fun _ _ _ => Nat.le_of_ble_eq_true rfl) ?_
  intro p l e s m args below meth c D J o z aK aV G Ld aF Q ls hst hx hb hml hown hts hE hT hret hxx hthr hI hl
  obtain ⟨H, eH⟩ : ∃ H, H = s.heap := ⟨_, rfl⟩
  obtain ⟨locs, eL⟩ : ∃ L : List Loc, L = [] := ⟨_, rfl⟩
  rw [← eH, ← eL] at hI ⊢
  have hown : s.vm.findClass RX1 = some m.cls := hown
  have hl : lv_has ls 3 [(0, .ref o), (1, .int a1)] := hl
  unfold X1_due at hf
  refine lv_aload_n hx hb dX1_due_0 rfl (lv_at hl 0 rfl) ?_
  refine lv_iload_n hx hb dX1_due_1 rfl (lv_at hl 1 rfl) ?_
  obtain ⟨x2, ex2, hf⟩ := obd hf
  refine xcallV (rest := []) hx hb hts hst hown hE hT hI hml hl.1 (mX1_deedAt Λ Λn τ a1 _ ex2) (cwX1_deedAt_X1 hts ⟨Nat.le_of_ble_eq_true rfl, Nat.le_of_ble_eq_true rfl⟩) (hI.1.o 0 rfl) rfl rfl ⟨Nat.le_of_ble_eq_true rfl, Nat.le_of_ble_eq_true rfl⟩ rfl rfl (lv_room (Nat.le_of_ble_eq_true rfl)) dX1_due_2 (fun E ce q9 n σ' H locs ho hn hI h1 h2 h3 => by subst ho; have hf := selR hf; exact hxx H locs 2 ls _ _ _ E ce q9 n σ' hI (Option.some.inj hf).symm hn h1 h2 h3 (Nat.le_of_ble_eq_true rfl) (Nat.le_of_ble_eq_true rfl)) (fun v2 H locs ho hI => ?_)
  subst ho
  replace hf := selL hf
  refine lv_aload_n hx hb dX1_due_5 rfl (lv_at hl 0 rfl) ?_
  refine lv_iconst (v := (0 : Int32)) hx hb dX1_due_6 (by decide) ?_
  obtain ⟨t7, et7, hf⟩ := obd hf
  refine ccallR (rest := []) hx hb hts hown hE hI hml hl.1 (mX1_worldAt Λ Λn v2.2 (0 : Int32) _ et7) (cwX1_worldAt_X1 hts ⟨Nat.le_of_ble_eq_true rfl, Nat.le_of_ble_eq_true rfl⟩) (hI.1.o 0 rfl) rfl rfl ⟨Nat.le_of_ble_eq_true rfl, Nat.le_of_ble_eq_true rfl⟩ rfl rfl (lv_room (Nat.le_of_ble_eq_true rfl)) dX1_due_7 (fun H locs hI => ?_)
  refine lv_pop hx hb dX1_due_10 rfl ?_
  refine lv_iconst (v := (0 : Int32)) hx hb dX1_due_11 (by decide) ?_
  refine lv_istore_n (lv' := [(2, .int (0 : Int32)), (0, .ref o), (1, .int a1)]) hx hb dX1_due_12 rfl hl (by decide) rfl (fun ls hl => ?_)
  obtain ⟨e13, he13, hf⟩ := obd hf
  have hs13 : ∀ (c1 : Int32), ∀ (w13 : Cs × Int32) (o13 : (Cs × Int32) ⊕ ((Cs × Int32) ⊕ (Cs))), X1_due_L13 Λ c1 w13 = some o13 → (∀ wx_, o13 = .inl wx_ → ∀ (H : Heap) (locs : List Loc) (ls : Array Slot), IC D J o Ld s H locs wx_.1 → lv_has ls 3 [(0, .ref o), (1, .int c1), (2, .int wx_.2)] → W p l e ({ frames := 65, cells := 1, slots := 6, locals := 3115 } : Room) s m args below meth c H locs 1 6 Q (F0 m 13 ls [])) → (∀ ex_, o13 = .inr ex_ → Sum.elim (fun ex_ => ∀ (H : Heap) (locs : List Loc) (ls : Array Slot), IC D J o Ld s H locs ex_.1 → lv_has ls 3 [(2, .int ex_.2)] → W p l e ({ frames := 65, cells := 1, slots := 6, locals := 3115 } : Room) s m args below meth c H locs 1 6 Q (F0 m 31 ls [])) (fun ex_ => ∀ (H : Heap) (locs : List Loc) (ls : Array Slot), IC D J o Ld s H locs ex_ → lv_has ls 3 [] → W p l e ({ frames := 65, cells := 1, slots := 6, locals := 3115 } : Room) s m args below meth c H locs 1 6 Q (F0 m 49 ls [])) ex_) → ∀ (H : Heap) (locs : List Loc) (ls : Array Slot), IC D J o Ld s H locs w13.1 → lv_has ls 3 [(0, .ref o), (1, .int c1), (2, .int w13.2)] → W p l e ({ frames := 65, cells := 1, slots := 6, locals := 3115 } : Room) s m args below meth c H locs 1 6 Q (F0 m 13 ls []) := by
    intro c1 w13 o13 hf hk hq H locs ls hI hl
    unfold X1_due_L13 at hf
    refine lv_iload_n hx hb dX1_due_13 rfl (lv_at hl 2 rfl) ?_
    refine lv_bipush (v := (80 : Int32)) hx hb dX1_due_14 (by decide) ?_
    refine lv_icmp_gt (tgt := 49) hx hb dX1_due_16 (by decide) (fun hc => ?_) (fun hc => ?_)
    · replace hf := ipos hc hf
      exact hq _ (Option.some.inj hf).symm H locs ls hI (lv_sub hl [] rfl)
    · replace hf := ineg hc hf
      refine lv_aload_n hx hb dX1_due_19 rfl (lv_at hl 0 rfl) ?_
      refine gget hx hb hts in_X1 hown hE.1.1 (hI.1.o 0 rfl) rfl 6 (by decide) q472 rfl dX1_due_20 ?_
      refine ggetN hx hb hts in_X2 hown hE.1.1 (hI.1.w 3 (by decide) 0 rfl) rfl 15 (by decide) (hE.1.2.2.f 19 rfl) rfl dX1_due_23 ?_
      refine lv_iload_n hx hb dX1_due_26 rfl (lv_at hl 1 rfl) ?_
      obtain ⟨x27, ex27, hf⟩ := obd hf
      refine gzld hx hb hE.1.1 1 (hI.1.w 3 (by decide) 7 rfl) rfl ex27 dX1_due_27 ?_
      refine lv_if_eq (tgt := 33) hx hb dX1_due_28 (by decide) (fun hc => ?_) (fun hc => ?_)
      · replace hf := ipos hc hf
        refine lv_aload_n hx hb dX1_due_33 rfl (lv_at hl 0 rfl) ?_
        refine lv_aload_n hx hb dX1_due_34 rfl (lv_at hl 0 rfl) ?_
        refine gget hx hb hts in_X1 hown hE.1.1 (hI.1.o 0 rfl) rfl 6 (by decide) q472 rfl dX1_due_35 ?_
        refine lv_iconst (v := (0 : Int32)) hx hb dX1_due_38 (by decide) ?_
        obtain ⟨x39, ex39, hf⟩ := obd hf
        refine ccallI (rest := []) hx hb hts hown hE hI hml hl.1 (mX1_aSeason Λ Λn w13.1 3 (0 : Int32) (by decide) _ _ ex39) (cwX1_aSeason_X1 hts ⟨Nat.le_of_ble_eq_true rfl, Nat.le_of_ble_eq_true rfl⟩) (hI.1.o 0 rfl) rfl rfl ⟨Nat.le_of_ble_eq_true rfl, Nat.le_of_ble_eq_true rfl⟩ rfl rfl (lv_room (Nat.le_of_ble_eq_true rfl)) dX1_due_39 (fun H locs hI => ?_)
        refine lv_pop hx hb dX1_due_42 rfl ?_
        obtain ⟨v43, ev43, hf⟩ := obd hf
        refine lv_iinc (v := v43) (lv' := [(2, .int v43), (0, .ref o), (1, .int c1)]) hx hb dX1_due_43 hl (k := 2) rfl (iiE ev43 (by decide)) (by decide) rfl (fun ls hl => ?_)
        refine lv_goto (tgt := 13) hx hb dX1_due_46 (by decide) ?_
        exact hk _ (Option.some.inj hf).symm H locs ls hI (lv_sub hl [1, 2, 0] rfl)
      · replace hf := ineg hc hf
        exact hq _ (Option.some.inj hf).symm H locs ls hI (lv_sub hl [2] rfl)
  refine loopO_W (Wat := fun w13 => ∀ (H : Heap) (locs : List Loc) (ls : Array Slot), IC D J o Ld s H locs w13.1 → lv_has ls 3 [(0, .ref o), (1, .int a1), (2, .int w13.2)] → W p l e ({ frames := 65, cells := 1, slots := 6, locals := 3115 } : Room) s m args below meth c H locs 1 6 Q (F0 m 13 ls [])) (Wex := fun ex_ => Sum.elim (fun ex_ => ∀ (H : Heap) (locs : List Loc) (ls : Array Slot), IC D J o Ld s H locs ex_.1 → lv_has ls 3 [(2, .int ex_.2)] → W p l e ({ frames := 65, cells := 1, slots := 6, locals := 3115 } : Room) s m args below meth c H locs 1 6 Q (F0 m 31 ls [])) (fun ex_ => ∀ (H : Heap) (locs : List Loc) (ls : Array Slot), IC D J o Ld s H locs ex_ → lv_has ls 3 [] → W p l e ({ frames := 65, cells := 1, slots := 6, locals := 3115 } : Room) s m args below meth c H locs 1 6 Q (F0 m 49 ls [])) ex_) (hs13 a1) FU _ e13 he13 ?_ H locs ls hI (lv_sub hl [1, 2, 0] rfl)
  · skip
    rcases e13 with e13 | e13
    · replace hf := sumL hf
      intro H locs ls hI hl
      refine lv_iload_n hx hb dX1_due_31 rfl (lv_at hl 0 rfl) ?_
      exact hret H locs 32 ls _ _ hI (Option.some.inj hf).symm dX1_due_32
    · replace hf := sumR hf
      intro H locs ls hI hl
      refine lv_iconst (v := (-1 : Int32)) hx hb dX1_due_49 (by decide) ?_
      exact hret H locs 50 ls _ _ hI (Option.some.inj hf).symm dX1_due_50

theorem dsX1_aheadBy_X1 {R : Room} {s : State} {args : Array Value} {fr lo : Nat} (hts : ∀ w ∈ lw_all, w.before args s = true) (hR : fr + 1 ≤ R.frames ∧ 8 + (1 + 11) + lo ≤ R.locals) : CallB R s args RX1 567 yX1_aheadBy cX1_aheadBy 1 (none) (ws_ yX1_aheadBy cX1_aheadBy 1 (none)) ({ frames := fr, cells := 0, slots := 0, locals := lo }) 0 0 1 ∧ (Cond.static yX1_aheadBy).before args s = true :=
  va_cwS 1 hts (lw_S q1876 q1877 q133 q1878) rfl rfl rfl (by decide +kernel) hR
theorem csX1_aheadBy_X1 {R : Room} {s : State} {args : Array Value} {fr lo : Nat} (hts : ∀ w ∈ lw_all, w.before args s = true) (hR : fr + 1 ≤ R.frames ∧ 8 + (1 + 11) + lo ≤ R.locals) : CallB R s args RX1 567 yX1_aheadBy cX1_aheadBy 1 (none) (ws_ yX1_aheadBy cX1_aheadBy 1 (none)) ({ frames := fr, cells := 1, slots := 6, locals := lo }) 1 6 1 ∧ (Cond.static yX1_aheadBy).before args s = true :=
  va_cwS 1 hts (lw_S q1876 q1877 q133 q1878) rfl rfl rfl (by decide +kernel) hR
def X1_wealth (Λ : Nat → Nat → (Nat → Int32) → Int32) (τ : Cs) (a1 : Int32) (a2 : Int32) : Option Xo :=
  (X1_partyAt τ a1).bind fun x2 =>
  Sum.elim (fun (v2 : Int32 × Cs) =>
    (X1_aheadBy a2).bind fun x6 =>
    Option.elim x6 (
    (X1_worldAt Λ v2.2 a2).bind fun t11 =>
    (ld 6 (cw t11 3 10) a1).bind fun x18 =>
    some (.inl (x18, t11))) fun n => some (.inr (n, v2.2))) (fun (u : Nat × Cs) => some (.inr u)) x2
set_option maxHeartbeats 4000000 in
theorem mX1_wealth (Λ : Nat → Nat → (Nat → Int32) → Int32) (Λn : Nat → Int32) (τ : Cs) (a1 : Int32) (a2 : Int32) (out : Xo) (hf : X1_wealth Λ τ a1 a2 = some out) : CXi yX1_wealth cX1_wealth 3 (some .int) 65 3115 2 12 Λ Λn (fun o aK aF => [.ref o, .int a1, .int a2]) out τ := by
  refine CXi.of (by decide) (fun _ _ _ => Nat.le_of_ble_eq_true rfl) ?_
  intro p l e s m args below meth c D J o z aK aV G Ld aF Q ls hst hx hb hml hown hts hE hT hret hxx hthr hI hl
  obtain ⟨H, eH⟩ : ∃ H, H = s.heap := ⟨_, rfl⟩
  obtain ⟨locs, eL⟩ : ∃ L : List Loc, L = [] := ⟨_, rfl⟩
  rw [← eH, ← eL] at hI ⊢
  have hown : s.vm.findClass RX1 = some m.cls := hown
  have hl : lv_has ls 3 [(0, .ref o), (1, .int a1), (2, .int a2)] := hl
  unfold X1_wealth at hf
  refine lv_aload_n hx hb dX1_wealth_0 rfl (lv_at hl 0 rfl) ?_
  refine lv_iload_n hx hb dX1_wealth_1 rfl (lv_at hl 1 rfl) ?_
  obtain ⟨x2, ex2, hf⟩ := obd hf
  refine xcallV (rest := []) hx hb hts hst hown hE hT hI hml hl.1 (mX1_partyAt Λ Λn τ a1 _ ex2) (cwX1_partyAt_X1 hts ⟨Nat.le_of_ble_eq_true rfl, Nat.le_of_ble_eq_true rfl⟩) (hI.1.o 0 rfl) rfl rfl ⟨Nat.le_of_ble_eq_true rfl, Nat.le_of_ble_eq_true rfl⟩ rfl rfl (lv_room (Nat.le_of_ble_eq_true rfl)) dX1_wealth_2 (fun E ce q9 n σ' H locs ho hn hI h1 h2 h3 => by subst ho; have hf := selR hf; exact hxx H locs 2 ls _ _ _ E ce q9 n σ' hI (Option.some.inj hf).symm hn h1 h2 h3 (Nat.le_of_ble_eq_true rfl) (Nat.le_of_ble_eq_true rfl)) (fun v2 H locs ho hI => ?_)
  subst ho
  replace hf := selL hf
  refine lv_iload_n hx hb dX1_wealth_5 rfl (lv_at hl 2 rfl) ?_
  obtain ⟨x6, ex6, hf⟩ := obd hf
  rcases x6 with _ | nx6
  rotate_left
  · replace hf := oelS hf
    exact xcallS (rest := []) hx hb hts hst hown hE hT hI hml hl.1 (mX1_aheadBy a2 _ ex6) (csX1_aheadBy_X1 hts ⟨Nat.le_of_ble_eq_true rfl, Nat.le_of_ble_eq_true rfl⟩) ⟨Nat.le_of_ble_eq_true rfl, Nat.le_of_ble_eq_true rfl⟩ rfl rfl (lv_room (Nat.le_of_ble_eq_true rfl)) dX1_wealth_6 (fun E ce q9 n H locs ho hn hI h1 h2 h3 => by cases ho; exact hxx H locs 6 ls _ _ _ E ce q9 _ _ hI (Option.some.inj hf).symm hn h1 h2 h3 (Nat.le_of_ble_eq_true rfl) (Nat.le_of_ble_eq_true rfl)) (fun ho => by cases ho)
  replace hf := oelN hf
  refine tcallSv (rest := []) hx hb hts hown hml hl.1 (nX1_aheadBy a2 ex6) (dsX1_aheadBy_X1 hts ⟨Nat.le_of_ble_eq_true rfl, Nat.le_of_ble_eq_true rfl⟩) ⟨Nat.le_of_ble_eq_true rfl, Nat.le_of_ble_eq_true rfl⟩ rfl rfl (lv_room (Nat.le_of_ble_eq_true rfl)) dX1_wealth_6 ?_
  refine lv_aload_n hx hb dX1_wealth_9 rfl (lv_at hl 0 rfl) ?_
  refine lv_iload_n hx hb dX1_wealth_10 rfl (lv_at hl 2 rfl) ?_
  obtain ⟨t11, et11, hf⟩ := obd hf
  refine ccallR (rest := []) hx hb hts hown hE hI hml hl.1 (mX1_worldAt Λ Λn v2.2 a2 _ et11) (cwX1_worldAt_X1 hts ⟨Nat.le_of_ble_eq_true rfl, Nat.le_of_ble_eq_true rfl⟩) (hI.1.o 0 rfl) rfl rfl ⟨Nat.le_of_ble_eq_true rfl, Nat.le_of_ble_eq_true rfl⟩ rfl rfl (lv_room (Nat.le_of_ble_eq_true rfl)) dX1_wealth_11 (fun H locs hI => ?_)
  refine ggetN hx hb hts in_X2 hown hE.1.1 (hI.1.w 3 (by decide) 0 rfl) rfl 10 (by decide) (hE.1.2.2.f 12 rfl) rfl dX1_wealth_14 ?_
  refine lv_iload_n hx hb dX1_wealth_17 rfl (lv_at hl 1 rfl) ?_
  obtain ⟨x18, ex18, hf⟩ := obd hf
  refine gald hx hb hE.1.1 0 (hI.1.w 3 (by decide) 2 rfl) rfl ex18 dX1_wealth_18 ?_
  refine W.widen (k := 2) (n := 12) (Nat.le_of_ble_eq_true rfl) (Nat.le_of_ble_eq_true rfl) ?_
  exact hret H locs 19 ls _ _ hI (Option.some.inj hf).symm dX1_wealth_19

theorem cwX1_chainOf_X1 {R : Room} {s : State} {args : Array Value} {fr lo : Nat} (hts : ∀ w ∈ lw_all, w.before args s = true) (hR : fr + 1 ≤ R.frames ∧ 8 + (4 + 11) + lo ≤ R.locals) : CallW R s args RX1 RX1 570 yX1_chainOf cX1_chainOf 4 (some .int) (ws_ yX1_chainOf cX1_chainOf 4 (some .int)) ({ frames := fr, cells := 0, slots := 0, locals := lo }) 0 0 1 :=
  cwV 1 hts (lw_V q1886 q1888 qs47 q133 q1889) rfl rfl rfl (by decide +kernel) hR
def X1_chain (τ : Cs) (a1 : Int32) : Option Xo :=
  (X1_deedAt τ a1).bind fun x2 =>
  Sum.elim (fun (v2 : Int32 × Cs) =>
    (X1_chainOf v2.2 a1).bind fun x7 =>
    some (.inl (x7, v2.2))) (fun (u : Nat × Cs) => some (.inr u)) x2
set_option maxHeartbeats 4000000 in
theorem mX1_chain (Λ : Nat → Nat → (Nat → Int32) → Int32) (Λn : Nat → Int32) (τ : Cs) (a1 : Int32) (out : Xo) (hf : X1_chain τ a1 = some out) : CXi yX1_chain cX1_chain 2 (some .int) 12 342 1 6 Λ Λn (fun o aK aF => [.ref o, .int a1]) out τ := by
  refine CXi.of (by decide) (fun _ _ _ => Nat.le_of_ble_eq_true rfl) ?_
  intro p l e s m args below meth c D J o z aK aV G Ld aF Q ls hst hx hb hml hown hts hE hT hret hxx hthr hI hl
  obtain ⟨H, eH⟩ : ∃ H, H = s.heap := ⟨_, rfl⟩
  obtain ⟨locs, eL⟩ : ∃ L : List Loc, L = [] := ⟨_, rfl⟩
  rw [← eH, ← eL] at hI ⊢
  have hown : s.vm.findClass RX1 = some m.cls := hown
  have hl : lv_has ls 2 [(0, .ref o), (1, .int a1)] := hl
  unfold X1_chain at hf
  refine lv_aload_n hx hb dX1_chain_0 rfl (lv_at hl 0 rfl) ?_
  refine lv_iload_n hx hb dX1_chain_1 rfl (lv_at hl 1 rfl) ?_
  obtain ⟨x2, ex2, hf⟩ := obd hf
  refine xcallV (rest := []) hx hb hts hst hown hE hT hI hml hl.1 (mX1_deedAt Λ Λn τ a1 _ ex2) (cwX1_deedAt_X1 hts ⟨Nat.le_of_ble_eq_true rfl, Nat.le_of_ble_eq_true rfl⟩) (hI.1.o 0 rfl) rfl rfl ⟨Nat.le_of_ble_eq_true rfl, Nat.le_of_ble_eq_true rfl⟩ rfl rfl (lv_room (Nat.le_of_ble_eq_true rfl)) dX1_chain_2 (fun E ce q9 n σ' H locs ho hn hI h1 h2 h3 => by subst ho; have hf := selR hf; exact hxx H locs 2 ls _ _ _ E ce q9 n σ' hI (Option.some.inj hf).symm hn h1 h2 h3 (Nat.le_of_ble_eq_true rfl) (Nat.le_of_ble_eq_true rfl)) (fun v2 H locs ho hI => ?_)
  subst ho
  replace hf := selL hf
  refine lv_aload_n hx hb dX1_chain_5 rfl (lv_at hl 0 rfl) ?_
  refine lv_iload_n hx hb dX1_chain_6 rfl (lv_at hl 1 rfl) ?_
  obtain ⟨x7, ex7, hf⟩ := obd hf
  refine ccallI (rest := []) hx hb hts hown hE hI hml hl.1 (mX1_chainOf Λ Λn v2.2 a1 _ ex7) (cwX1_chainOf_X1 hts ⟨Nat.le_of_ble_eq_true rfl, Nat.le_of_ble_eq_true rfl⟩) (hI.1.o 0 rfl) rfl rfl ⟨Nat.le_of_ble_eq_true rfl, Nat.le_of_ble_eq_true rfl⟩ rfl rfl (lv_room (Nat.le_of_ble_eq_true rfl)) dX1_chain_7 (fun H locs hI => ?_)
  exact hret H locs 10 ls _ _ hI (Option.some.inj hf).symm dX1_chain_10

def X1_hangs_L9 (τ : Cs) (c1 : Int32) (w9 : Int32 × Int32) : Option ((Int32 × Int32) ⊕ (Int32)) :=
  if (cw τ 0 0 3) ≤ w9.2 then
    some (.inr w9.1)
  else
    if w9.2 = c1 then
      (some (w9.1 ||| (0 : Int32))).bind fun v46 =>
      (some (w9.2 + (1 : Int32))).bind fun v47 =>
      some (.inl (v46, v47))
    else
      (X1_chainOf τ w9.2).bind fun x28 =>
      (X1_has x28 c1).bind fun x32 =>
      if x32 = (0 : Int32) then
        (some (w9.1 ||| (0 : Int32))).bind fun v46_7 =>
        (some (w9.2 + (1 : Int32))).bind fun v47_8 =>
        some (.inl (v46_7, v47_8))
      else
        (some (w9.1 ||| ((1 : Int32) <<< (w9.2 &&& (31 : Int32))))).bind fun v46_9 =>
        (some (w9.2 + (1 : Int32))).bind fun v47_10 =>
        some (.inl (v46_9, v47_10))
def X1_hangs (τ : Cs) (a1 : Int32) : Option Xo :=
  (X1_deedAt τ a1).bind fun x2 =>
  Sum.elim (fun (v2 : Int32 × Cs) =>
    (loopO (X1_hangs_L9 v2.2 a1) FU ((0 : Int32), (0 : Int32))).bind fun e9 =>
    some (.inl (e9, v2.2))) (fun (u : Nat × Cs) => some (.inr u)) x2
set_option maxHeartbeats 4000000 in
theorem mX1_hangs (Λ : Nat → Nat → (Nat → Int32) → Int32) (Λn : Nat → Int32) (τ : Cs) (a1 : Int32) (out : Xo) (hf : X1_hangs τ a1 = some out) : CXi yX1_hangs cX1_hangs 4 (some .int) 12 342 1 6 Λ Λn (fun o aK aF => [.ref o, .int a1]) out τ := by
  refine CXi.of (by decide) (fun _ _ _ => Nat.le_of_ble_eq_true rfl) ?_
  intro p l e s m args below meth c D J o z aK aV G Ld aF Q ls hst hx hb hml hown hts hE hT hret hxx hthr hI hl
  obtain ⟨H, eH⟩ : ∃ H, H = s.heap := ⟨_, rfl⟩
  obtain ⟨locs, eL⟩ : ∃ L : List Loc, L = [] := ⟨_, rfl⟩
  rw [← eH, ← eL] at hI ⊢
  have hown : s.vm.findClass RX1 = some m.cls := hown
  have hl : lv_has ls 4 [(0, .ref o), (1, .int a1)] := hl
  unfold X1_hangs at hf
  refine lv_aload_n hx hb dX1_hangs_0 rfl (lv_at hl 0 rfl) ?_
  refine lv_iload_n hx hb dX1_hangs_1 rfl (lv_at hl 1 rfl) ?_
  obtain ⟨x2, ex2, hf⟩ := obd hf
  refine xcallV (rest := []) hx hb hts hst hown hE hT hI hml hl.1 (mX1_deedAt Λ Λn τ a1 _ ex2) (cwX1_deedAt_X1 hts ⟨Nat.le_of_ble_eq_true rfl, Nat.le_of_ble_eq_true rfl⟩) (hI.1.o 0 rfl) rfl rfl ⟨Nat.le_of_ble_eq_true rfl, Nat.le_of_ble_eq_true rfl⟩ rfl rfl (lv_room (Nat.le_of_ble_eq_true rfl)) dX1_hangs_2 (fun E ce q9 n σ' H locs ho hn hI h1 h2 h3 => by subst ho; have hf := selR hf; exact hxx H locs 2 ls _ _ _ E ce q9 n σ' hI (Option.some.inj hf).symm hn h1 h2 h3 (Nat.le_of_ble_eq_true rfl) (Nat.le_of_ble_eq_true rfl)) (fun v2 H locs ho hI => ?_)
  subst ho
  replace hf := selL hf
  refine lv_iconst (v := (0 : Int32)) hx hb dX1_hangs_5 (by decide) ?_
  refine lv_istore_n (lv' := [(2, .int (0 : Int32)), (0, .ref o), (1, .int a1)]) hx hb dX1_hangs_6 rfl hl (by decide) rfl (fun ls hl => ?_)
  refine lv_iconst (v := (0 : Int32)) hx hb dX1_hangs_7 (by decide) ?_
  refine lv_istore_n (lv' := [(3, .int (0 : Int32)), (2, .int (0 : Int32)), (0, .ref o), (1, .int a1)]) hx hb dX1_hangs_8 rfl hl (by decide) rfl (fun ls hl => ?_)
  obtain ⟨e9, he9, hf⟩ := obd hf
  have hs9 : ∀ (τ : Cs) (c1 : Int32), ∀ (w9 : Int32 × Int32) (o9 : (Int32 × Int32) ⊕ (Int32)), X1_hangs_L9 τ c1 w9 = some o9 → (∀ wx_, o9 = .inl wx_ → ∀ (H : Heap) (locs : List Loc) (ls : Array Slot), IC D J o Ld s H locs τ → lv_has ls 4 [(0, .ref o), (1, .int c1), (2, .int wx_.1), (3, .int wx_.2)] → W p l e ({ frames := 12, cells := 1, slots := 6, locals := 342 } : Room) s m args below meth c H locs 1 6 Q (F0 m 9 ls [])) → (∀ ex_, o9 = .inr ex_ → ∀ (H : Heap) (locs : List Loc) (ls : Array Slot), IC D J o Ld s H locs τ → lv_has ls 4 [(2, .int ex_)] → W p l e ({ frames := 12, cells := 1, slots := 6, locals := 342 } : Room) s m args below meth c H locs 1 6 Q (F0 m 53 ls [])) → ∀ (H : Heap) (locs : List Loc) (ls : Array Slot), IC D J o Ld s H locs τ → lv_has ls 4 [(0, .ref o), (1, .int c1), (2, .int w9.1), (3, .int w9.2)] → W p l e ({ frames := 12, cells := 1, slots := 6, locals := 342 } : Room) s m args below meth c H locs 1 6 Q (F0 m 9 ls []) := by
    intro τ c1 w9 o9 hf hk hq H locs ls hI hl
    unfold X1_hangs_L9 at hf
    refine lv_iload_n hx hb dX1_hangs_9 rfl (lv_at hl 3 rfl) ?_
    refine lv_aload_n hx hb dX1_hangs_10 rfl (lv_at hl 0 rfl) ?_
    refine gget hx hb hts in_X1 hown hE.1.1 (hI.1.o 0 rfl) rfl 0 (by decide) q463 rfl dX1_hangs_11 ?_
    refine ggetN hx hb hts in_X2 hown hE.1.1 (hI.1.w 0 (by decide) 0 rfl) rfl 3 (by decide) (hE.1.2.2.f 5 rfl) rfl dX1_hangs_14 ?_
    refine lv_icmp_ge (tgt := 53) hx hb dX1_hangs_17 (by decide) (fun hc => ?_) (fun hc => ?_)
    · replace hf := ipos hc hf
      exact hq _ (Option.some.inj hf).symm H locs ls hI (lv_sub hl [2] rfl)
    · replace hf := ineg hc hf
      refine lv_iload_n hx hb dX1_hangs_20 rfl (lv_at hl 2 rfl) ?_
      refine lv_iload_n hx hb dX1_hangs_21 rfl (lv_at hl 3 rfl) ?_
      refine lv_iload_n hx hb dX1_hangs_22 rfl (lv_at hl 1 rfl) ?_
      refine lv_icmp_eq (tgt := 44) hx hb dX1_hangs_23 (by decide) (fun hc => ?_) (fun hc => ?_)
      · replace hf := ipos hc hf
        refine lv_iconst (v := (0 : Int32)) hx hb dX1_hangs_44 (by decide) ?_
        refine lv_ior hx hb dX1_hangs_45 ?_
        obtain ⟨v46, ev46, hf⟩ := obd hf
        refine nmI ev46 ?_
        refine lv_istore_n (lv' := [(2, .int v46), (0, .ref o), (1, .int c1), (3, .int w9.2)]) hx hb dX1_hangs_46 rfl hl (by decide) rfl (fun ls hl => ?_)
        obtain ⟨v47, ev47, hf⟩ := obd hf
        refine lv_iinc (v := v47) (lv' := [(3, .int v47), (2, .int v46), (0, .ref o), (1, .int c1)]) hx hb dX1_hangs_47 hl (k := 3) rfl (iiE ev47 (by decide)) (by decide) rfl (fun ls hl => ?_)
        refine lv_goto (tgt := 9) hx hb dX1_hangs_50 (by decide) ?_
        exact hk _ (Option.some.inj hf).symm H locs ls hI (lv_sub hl [2, 3, 1, 0] rfl)
      · replace hf := ineg hc hf
        refine lv_aload_n hx hb dX1_hangs_26 rfl (lv_at hl 0 rfl) ?_
        refine lv_iload_n hx hb dX1_hangs_27 rfl (lv_at hl 3 rfl) ?_
        obtain ⟨x28, ex28, hf⟩ := obd hf
        refine ccallI (rest := [.int w9.1]) hx hb hts hown hE hI hml hl.1 (mX1_chainOf Λ Λn τ w9.2 _ ex28) (cwX1_chainOf_X1 hts ⟨Nat.le_of_ble_eq_true rfl, Nat.le_of_ble_eq_true rfl⟩) (hI.1.o 0 rfl) rfl rfl ⟨Nat.le_of_ble_eq_true rfl, Nat.le_of_ble_eq_true rfl⟩ rfl rfl (lv_room (Nat.le_of_ble_eq_true rfl)) dX1_hangs_28 (fun H locs hI => ?_)
        refine lv_iload_n hx hb dX1_hangs_31 rfl (lv_at hl 1 rfl) ?_
        obtain ⟨x32, ex32, hf⟩ := obd hf
        refine tcallS (rest := [.int w9.1]) hx hb hts hown hml hl.1 (mX1_has x28 c1 _ ex32) (csX1_has_X1 hts ⟨Nat.le_of_ble_eq_true rfl, Nat.le_of_ble_eq_true rfl⟩) ⟨Nat.le_of_ble_eq_true rfl, Nat.le_of_ble_eq_true rfl⟩ rfl rfl (lv_room (Nat.le_of_ble_eq_true rfl)) dX1_hangs_32 ?_
        refine lv_if_eq (tgt := 44) hx hb dX1_hangs_35 (by decide) (fun hc => ?_) (fun hc => ?_)
        · replace hf := ipos hc hf
          refine lv_iconst (v := (0 : Int32)) hx hb dX1_hangs_44 (by decide) ?_
          refine lv_ior hx hb dX1_hangs_45 ?_
          obtain ⟨v46_7, ev46_7, hf⟩ := obd hf
          refine nmI ev46_7 ?_
          refine lv_istore_n (lv' := [(2, .int v46_7), (0, .ref o), (1, .int c1), (3, .int w9.2)]) hx hb dX1_hangs_46 rfl hl (by decide) rfl (fun ls hl => ?_)
          obtain ⟨v47_8, ev47_8, hf⟩ := obd hf
          refine lv_iinc (v := v47_8) (lv' := [(3, .int v47_8), (2, .int v46_7), (0, .ref o), (1, .int c1)]) hx hb dX1_hangs_47 hl (k := 3) rfl (iiE ev47_8 (by decide)) (by decide) rfl (fun ls hl => ?_)
          refine lv_goto (tgt := 9) hx hb dX1_hangs_50 (by decide) ?_
          exact hk _ (Option.some.inj hf).symm H locs ls hI (lv_sub hl [2, 3, 1, 0] rfl)
        · replace hf := ineg hc hf
          refine lv_iconst (v := (1 : Int32)) hx hb dX1_hangs_38 (by decide) ?_
          refine lv_iload_n hx hb dX1_hangs_39 rfl (lv_at hl 3 rfl) ?_
          refine lv_ishl hx hb dX1_hangs_40 ?_
          refine lv_goto (tgt := 45) hx hb dX1_hangs_41 (by decide) ?_
          refine lv_ior hx hb dX1_hangs_45 ?_
          obtain ⟨v46_9, ev46_9, hf⟩ := obd hf
          refine nmI ev46_9 ?_
          refine lv_istore_n (lv' := [(2, .int v46_9), (0, .ref o), (1, .int c1), (3, .int w9.2)]) hx hb dX1_hangs_46 rfl hl (by decide) rfl (fun ls hl => ?_)
          obtain ⟨v47_10, ev47_10, hf⟩ := obd hf
          refine lv_iinc (v := v47_10) (lv' := [(3, .int v47_10), (2, .int v46_9), (0, .ref o), (1, .int c1)]) hx hb dX1_hangs_47 hl (k := 3) rfl (iiE ev47_10 (by decide)) (by decide) rfl (fun ls hl => ?_)
          refine lv_goto (tgt := 9) hx hb dX1_hangs_50 (by decide) ?_
          exact hk _ (Option.some.inj hf).symm H locs ls hI (lv_sub hl [2, 3, 1, 0] rfl)
  refine loopO_W (Wat := fun w9 => ∀ (H : Heap) (locs : List Loc) (ls : Array Slot), IC D J o Ld s H locs v2.2 → lv_has ls 4 [(0, .ref o), (1, .int a1), (2, .int w9.1), (3, .int w9.2)] → W p l e ({ frames := 12, cells := 1, slots := 6, locals := 342 } : Room) s m args below meth c H locs 1 6 Q (F0 m 9 ls [])) (Wex := fun ex_ => ∀ (H : Heap) (locs : List Loc) (ls : Array Slot), IC D J o Ld s H locs v2.2 → lv_has ls 4 [(2, .int ex_)] → W p l e ({ frames := 12, cells := 1, slots := 6, locals := 342 } : Room) s m args below meth c H locs 1 6 Q (F0 m 53 ls [])) (hs9 v2.2 a1) FU _ e9 he9 ?_ H locs ls hI (lv_sub hl [2, 3, 1, 0] rfl)
  · skip
    intro H locs ls hI hl
    refine lv_iload_n hx hb dX1_hangs_53 rfl (lv_at hl 0 rfl) ?_
    exact hret H locs 54 ls _ _ hI (Option.some.inj hf).symm dX1_hangs_54

theorem cwX5_net_X1 {R : Room} {s : State} {args : Array Value} {fr lo : Nat} (hts : ∀ w ∈ lw_all, w.before args s = true) (hR : fr + 1 ≤ R.frames ∧ 8 + (6 + 11) + lo ≤ R.locals) : CallW R s args RX1 RX5 576 yX5_net cX5_net 6 (some .int) (ws_ yX5_net cX5_net 6 (some .int)) ({ frames := fr, cells := 0, slots := 0, locals := lo }) 0 0 2 :=
  cwV 2 hts (lw_V q1904 q1722 q1723 q138 q1724) rfl rfl rfl (by decide +kernel) hR
def X1_net (τ : Cs) (a1 : Int32) (a2 : Int32) : Option Xo :=
  (X1_partyAt τ a1).bind fun x2 =>
  Sum.elim (fun (v2 : Int32 × Cs) =>
    (X5_net v2.2 a1 a2).bind fun x11 =>
    some (.inl (x11, v2.2))) (fun (u : Nat × Cs) => some (.inr u)) x2
set_option maxHeartbeats 4000000 in
theorem mX1_net (Λ : Nat → Nat → (Nat → Int32) → Int32) (Λn : Nat → Int32) (τ : Cs) (a1 : Int32) (a2 : Int32) (out : Xo) (hf : X1_net τ a1 a2 = some out) : CXi yX1_net cX1_net 3 (some .int) 12 342 1 6 Λ Λn (fun o aK aF => [.ref o, .int a1, .int a2]) out τ := by
  refine CXi.of (by decide) (fun _ _ _ => Nat.le_of_ble_eq_true rfl) ?_
  intro p l e s m args below meth c D J o z aK aV G Ld aF Q ls hst hx hb hml hown hts hE hT hret hxx hthr hI hl
  obtain ⟨H, eH⟩ : ∃ H, H = s.heap := ⟨_, rfl⟩
  obtain ⟨locs, eL⟩ : ∃ L : List Loc, L = [] := ⟨_, rfl⟩
  rw [← eH, ← eL] at hI ⊢
  have hown : s.vm.findClass RX1 = some m.cls := hown
  have hl : lv_has ls 3 [(0, .ref o), (1, .int a1), (2, .int a2)] := hl
  unfold X1_net at hf
  refine lv_aload_n hx hb dX1_net_0 rfl (lv_at hl 0 rfl) ?_
  refine lv_iload_n hx hb dX1_net_1 rfl (lv_at hl 1 rfl) ?_
  obtain ⟨x2, ex2, hf⟩ := obd hf
  refine xcallV (rest := []) hx hb hts hst hown hE hT hI hml hl.1 (mX1_partyAt Λ Λn τ a1 _ ex2) (cwX1_partyAt_X1 hts ⟨Nat.le_of_ble_eq_true rfl, Nat.le_of_ble_eq_true rfl⟩) (hI.1.o 0 rfl) rfl rfl ⟨Nat.le_of_ble_eq_true rfl, Nat.le_of_ble_eq_true rfl⟩ rfl rfl (lv_room (Nat.le_of_ble_eq_true rfl)) dX1_net_2 (fun E ce q9 n σ' H locs ho hn hI h1 h2 h3 => by subst ho; have hf := selR hf; exact hxx H locs 2 ls _ _ _ E ce q9 n σ' hI (Option.some.inj hf).symm hn h1 h2 h3 (Nat.le_of_ble_eq_true rfl) (Nat.le_of_ble_eq_true rfl)) (fun v2 H locs ho hI => ?_)
  subst ho
  replace hf := selL hf
  refine lv_aload_n hx hb dX1_net_5 rfl (lv_at hl 0 rfl) ?_
  refine gget hx hb hts in_X1 hown hE.1.1 (hI.1.o 0 rfl) rfl 7 (by decide) q473 rfl dX1_net_6 ?_
  refine lv_iload_n hx hb dX1_net_9 rfl (lv_at hl 1 rfl) ?_
  refine lv_iload_n hx hb dX1_net_10 rfl (lv_at hl 2 rfl) ?_
  obtain ⟨x11, ex11, hf⟩ := obd hf
  refine ccallI (rest := []) hx hb hts hown hE hI hml hl.1 (mX5_net Λ Λn v2.2 a1 a2 _ ex11) (cwX5_net_X1 hts ⟨Nat.le_of_ble_eq_true rfl, Nat.le_of_ble_eq_true rfl⟩) (hI.1.o 4 rfl) rfl rfl ⟨Nat.le_of_ble_eq_true rfl, Nat.le_of_ble_eq_true rfl⟩ rfl rfl (lv_room (Nat.le_of_ble_eq_true rfl)) dX1_net_11 (fun H locs hI => ?_)
  exact hret H locs 14 ls _ _ hI (Option.some.inj hf).symm dX1_net_14

theorem cwX1_costsOfSet_X1 {R : Room} {s : State} {args : Array Value} {fr lo : Nat} (hts : ∀ w ∈ lw_all, w.before args s = true) (hR : fr + 1 ≤ R.frames ∧ 8 + (4 + 11) + lo ≤ R.locals) : CallW R s args RX1 RX1 580 yX1_costsOfSet cX1_costsOfSet 4 (some .int) (ws_ yX1_costsOfSet cX1_costsOfSet 4 (some .int)) ({ frames := fr, cells := 0, slots := 0, locals := lo }) 0 0 1 :=
  cwV 1 hts (lw_V q1913 q1915 qs48 q133 q1916) rfl rfl rfl (by decide +kernel) hR
def X1_worth_L37 (Λ : Nat → Nat → (Nat → Int32) → Int32) (c1 : Int32) (c2 : Int32) (c3 : Int32) (c4 : Int32) (w37 : Cs × Int32 × Int32 × Int32) : Option ((Cs × Int32 × Int32 × Int32) ⊕ (Cs × Int32 × Int32)) :=
  if c4 < w37.2.2.2 then
    some (.inr (w37.1, w37.2.1, w37.2.2.1))
  else
    (X1_costsOfSet Λ w37.1 w37.2.2.2).bind fun x47 =>
    if (w37.2.2.2 &&& (c4 ^^^ (-1 : Int32))) = (0 : Int32) then
      if x47.1 ≤ c2 then
        (X5_net x47.2 c1 w37.2.2.2).bind fun x78 =>
        (some (x78 - x47.1)).bind fun v84 =>
        if w37.2.2.1 < v84 then
          (some (w37.2.2.2 + (1 : Int32))).bind fun v104_10 =>
          some (.inl (x47.2, w37.2.2.2, v84, v104_10))
        else
          (some (w37.2.2.2 + (1 : Int32))).bind fun v104_11 =>
          some (.inl (x47.2, w37.2.1, w37.2.2.1, v104_11))
      else
        (some (w37.2.2.2 + (1 : Int32))).bind fun v104_12 =>
        some (.inl (x47.2, w37.2.1, w37.2.2.1, v104_12))
    else
      (some (w37.2.2.2 + (1 : Int32))).bind fun v104 =>
      some (.inl (x47.2, w37.2.1, w37.2.2.1, v104))
def X1_worth (Λ : Nat → Nat → (Nat → Int32) → Int32) (τ : Cs) (a1 : Int32) (a2 : Int32) (a3 : Int32) : Option Xo :=
  (X1_partyAt τ a1).bind fun x2 =>
  Sum.elim (fun (v2 : Int32 × Cs) =>
    (X1_in a2 (0 : Int32) (999 : Int32)).bind fun x10 =>
    (X1_demand x10).bind fun x13 =>
    Option.elim x13 (
    (X2_of (cw v2.2 0) (0 : Int32)).bind fun x21 =>
    (loopO (X1_worth_L37 Λ a1 a2 a3 x21) FU (v2.2, (0 : Int32), (-100000000 : Int32), (0 : Int32))).bind fun e37 =>
    if a3 = (0 : Int32) then
      some (.inl (e37.2.1, e37.1))
    else
      some (.inl (e37.2.2, e37.1))) fun n => some (.inr (n, v2.2))) (fun (u : Nat × Cs) => some (.inr u)) x2
set_option maxHeartbeats 4000000 in
theorem mX1_worth (Λ : Nat → Nat → (Nat → Int32) → Int32) (Λn : Nat → Int32) (τ : Cs) (a1 : Int32) (a2 : Int32) (a3 : Int32) (out : Xo) (hf : X1_worth Λ τ a1 a2 a3 = some out) : CXi yX1_worth cX1_worth 10 (some .int) 63 3069 2 12 Λ Λn (fun o aK aF => [.ref o, .int a1, .int a2, .int a3]) out τ := by
  refine CXi.of (by decide) (fun _ _ _ => Nat.le_of_ble_eq_true rfl) ?_
  intro p l e s m args below meth c D J o z aK aV G Ld aF Q ls hst hx hb hml hown hts hE hT hret hxx hthr hI hl
  obtain ⟨H, eH⟩ : ∃ H, H = s.heap := ⟨_, rfl⟩
  obtain ⟨locs, eL⟩ : ∃ L : List Loc, L = [] := ⟨_, rfl⟩
  rw [← eH, ← eL] at hI ⊢
  have hown : s.vm.findClass RX1 = some m.cls := hown
  have hl : lv_has ls 10 [(0, .ref o), (1, .int a1), (2, .int a2), (3, .int a3)] := hl
  unfold X1_worth at hf
  refine lv_aload_n hx hb dX1_worth_0 rfl (lv_at hl 0 rfl) ?_
  refine lv_iload_n hx hb dX1_worth_1 rfl (lv_at hl 1 rfl) ?_
  obtain ⟨x2, ex2, hf⟩ := obd hf
  refine xcallV (rest := []) hx hb hts hst hown hE hT hI hml hl.1 (mX1_partyAt Λ Λn τ a1 _ ex2) (cwX1_partyAt_X1 hts ⟨Nat.le_of_ble_eq_true rfl, Nat.le_of_ble_eq_true rfl⟩) (hI.1.o 0 rfl) rfl rfl ⟨Nat.le_of_ble_eq_true rfl, Nat.le_of_ble_eq_true rfl⟩ rfl rfl (lv_room (Nat.le_of_ble_eq_true rfl)) dX1_worth_2 (fun E ce q9 n σ' H locs ho hn hI h1 h2 h3 => by subst ho; have hf := selR hf; exact hxx H locs 2 ls _ _ _ E ce q9 n σ' hI (Option.some.inj hf).symm hn h1 h2 h3 (Nat.le_of_ble_eq_true rfl) (Nat.le_of_ble_eq_true rfl)) (fun v2 H locs ho hI => ?_)
  subst ho
  replace hf := selL hf
  refine lv_iload_n hx hb dX1_worth_5 rfl (lv_at hl 2 rfl) ?_
  refine lv_iconst (v := (0 : Int32)) hx hb dX1_worth_6 (by decide) ?_
  refine lv_sipush (v := (999 : Int32)) hx hb dX1_worth_7 (by decide) ?_
  obtain ⟨x10, ex10, hf⟩ := obd hf
  refine tcallS (rest := []) hx hb hts hown hml hl.1 (mX1_in a2 (0 : Int32) (999 : Int32) _ ex10) (csX1_in_X1 hts ⟨Nat.le_of_ble_eq_true rfl, Nat.le_of_ble_eq_true rfl⟩) ⟨Nat.le_of_ble_eq_true rfl, Nat.le_of_ble_eq_true rfl⟩ rfl rfl (lv_room (Nat.le_of_ble_eq_true rfl)) dX1_worth_10 ?_
  obtain ⟨x13, ex13, hf⟩ := obd hf
  rcases x13 with _ | nx13
  rotate_left
  · replace hf := oelS hf
    exact xcallS (rest := []) hx hb hts hst hown hE hT hI hml hl.1 (mX1_demand x10 _ ex13) (csX1_demand_X1 hts ⟨Nat.le_of_ble_eq_true rfl, Nat.le_of_ble_eq_true rfl⟩) ⟨Nat.le_of_ble_eq_true rfl, Nat.le_of_ble_eq_true rfl⟩ rfl rfl (lv_room (Nat.le_of_ble_eq_true rfl)) dX1_worth_13 (fun E ce q9 n H locs ho hn hI h1 h2 h3 => by cases ho; exact hxx H locs 13 ls _ _ _ E ce q9 _ _ hI (Option.some.inj hf).symm hn h1 h2 h3 (Nat.le_of_ble_eq_true rfl) (Nat.le_of_ble_eq_true rfl)) (fun ho => by cases ho)
  replace hf := oelN hf
  refine tcallSv (rest := []) hx hb hts hown hml hl.1 (nX1_demand x10 ex13) (dsX1_demand_X1 hts ⟨Nat.le_of_ble_eq_true rfl, Nat.le_of_ble_eq_true rfl⟩) ⟨Nat.le_of_ble_eq_true rfl, Nat.le_of_ble_eq_true rfl⟩ rfl rfl (lv_room (Nat.le_of_ble_eq_true rfl)) dX1_worth_13 ?_
  refine lv_aload_n hx hb dX1_worth_16 rfl (lv_at hl 0 rfl) ?_
  refine gget hx hb hts in_X1 hown hE.1.1 (hI.1.o 0 rfl) rfl 0 (by decide) q463 rfl dX1_worth_17 ?_
  refine lv_iconst (v := (0 : Int32)) hx hb dX1_worth_20 (by decide) ?_
  obtain ⟨x21, ex21, hf⟩ := obd hf
  refine cworldI (rest := []) hx hb hts hown hE hI hml hl.1 (mX2_of (cw v2.2 0) (0 : Int32) _ ex21) (by decide) (cwX2_of_X1 hts ⟨Nat.le_of_ble_eq_true rfl, Nat.le_of_ble_eq_true rfl⟩) (congrArg some (cwu_self v2.2 0)) ⟨Nat.le_of_ble_eq_true rfl, Nat.le_of_ble_eq_true rfl⟩ rfl rfl (lv_room (Nat.le_of_ble_eq_true rfl)) dX1_worth_21 (fun H locs hI => ?_)
  refine lv_istore (lv' := [(4, .int x21), (0, .ref o), (1, .int a1), (2, .int a2), (3, .int a3)]) hx hb dX1_worth_24 hl (by decide) rfl (fun ls hl => ?_)
  refine lv_iconst (v := (0 : Int32)) hx hb dX1_worth_26 (by decide) ?_
  refine lv_istore (lv' := [(5, .int (0 : Int32)), (4, .int x21), (0, .ref o), (1, .int a1), (2, .int a2), (3, .int a3)]) hx hb dX1_worth_27 hl (by decide) rfl (fun ls hl => ?_)
  refine lv_ldcw hx hb hown (hts _ q1912) dX1_worth_29 ?_
  refine lv_istore (lv' := [(6, .int (-100000000 : Int32)), (5, .int (0 : Int32)), (4, .int x21), (0, .ref o), (1, .int a1), (2, .int a2), (3, .int a3)]) hx hb dX1_worth_32 hl (by decide) rfl (fun ls hl => ?_)
  refine lv_iconst (v := (0 : Int32)) hx hb dX1_worth_34 (by decide) ?_
  refine lv_istore (lv' := [(7, .int (0 : Int32)), (6, .int (-100000000 : Int32)), (5, .int (0 : Int32)), (4, .int x21), (0, .ref o), (1, .int a1), (2, .int a2), (3, .int a3)]) hx hb dX1_worth_35 hl (by decide) rfl (fun ls hl => ?_)
  obtain ⟨e37, he37, hf⟩ := obd hf
  have hs37 : ∀ (c1 : Int32) (c2 : Int32) (c3 : Int32) (c4 : Int32), ∀ (w37 : Cs × Int32 × Int32 × Int32) (o37 : (Cs × Int32 × Int32 × Int32) ⊕ (Cs × Int32 × Int32)), X1_worth_L37 Λ c1 c2 c3 c4 w37 = some o37 → (∀ wx_, o37 = .inl wx_ → ∀ (H : Heap) (locs : List Loc) (ls : Array Slot), IC D J o Ld s H locs wx_.1 → lv_has ls 10 [(0, .ref o), (1, .int c1), (2, .int c2), (3, .int c3), (4, .int c4), (5, .int wx_.2.1), (6, .int wx_.2.2.1), (7, .int wx_.2.2.2)] → W p l e ({ frames := 63, cells := 2, slots := 12, locals := 3069 } : Room) s m args below meth c H locs 1 6 Q (F0 m 37 ls [])) → (∀ ex_, o37 = .inr ex_ → ∀ (H : Heap) (locs : List Loc) (ls : Array Slot), IC D J o Ld s H locs ex_.1 → lv_has ls 10 [(3, .int c3), (5, .int ex_.2.1), (6, .int ex_.2.2)] → W p l e ({ frames := 63, cells := 2, slots := 12, locals := 3069 } : Room) s m args below meth c H locs 1 6 Q (F0 m 110 ls [])) → ∀ (H : Heap) (locs : List Loc) (ls : Array Slot), IC D J o Ld s H locs w37.1 → lv_has ls 10 [(0, .ref o), (1, .int c1), (2, .int c2), (3, .int c3), (4, .int c4), (5, .int w37.2.1), (6, .int w37.2.2.1), (7, .int w37.2.2.2)] → W p l e ({ frames := 63, cells := 2, slots := 12, locals := 3069 } : Room) s m args below meth c H locs 1 6 Q (F0 m 37 ls []) := by
    intro c1 c2 c3 c4 w37 o37 hf hk hq H locs ls hI hl
    unfold X1_worth_L37 at hf
    refine lv_iload hx hb dX1_worth_37 (lv_at hl 7 rfl) ?_
    refine lv_iload hx hb dX1_worth_39 (lv_at hl 4 rfl) ?_
    refine lv_icmp_gt (tgt := 110) hx hb dX1_worth_41 (by decide) (fun hc => ?_) (fun hc => ?_)
    · replace hf := ipos hc hf
      exact hq _ (Option.some.inj hf).symm H locs ls hI (lv_sub hl [3, 5, 6] rfl)
    · replace hf := ineg hc hf
      refine lv_aload_n hx hb dX1_worth_44 rfl (lv_at hl 0 rfl) ?_
      refine lv_iload hx hb dX1_worth_45 (lv_at hl 7 rfl) ?_
      obtain ⟨x47, ex47, hf⟩ := obd hf
      refine ccallI (rest := []) hx hb hts hown hE hI hml hl.1 (mX1_costsOfSet Λ Λn w37.1 w37.2.2.2 _ _ ex47) (cwX1_costsOfSet_X1 hts ⟨Nat.le_of_ble_eq_true rfl, Nat.le_of_ble_eq_true rfl⟩) (hI.1.o 0 rfl) rfl rfl ⟨Nat.le_of_ble_eq_true rfl, Nat.le_of_ble_eq_true rfl⟩ rfl rfl (lv_room (Nat.le_of_ble_eq_true rfl)) dX1_worth_47 (fun H locs hI => ?_)
      refine lv_istore (lv' := [(8, .int x47.1), (0, .ref o), (1, .int c1), (2, .int c2), (3, .int c3), (4, .int c4), (5, .int w37.2.1), (6, .int w37.2.2.1), (7, .int w37.2.2.2)]) hx hb dX1_worth_50 hl (by decide) rfl (fun ls hl => ?_)
      refine lv_iload hx hb dX1_worth_52 (lv_at hl 8 rfl) ?_
      refine lv_iload hx hb dX1_worth_54 (lv_at hl 5 rfl) ?_
      refine lv_iconst (v := (-1 : Int32)) hx hb dX1_worth_56 (by decide) ?_
      refine lv_ixor hx hb dX1_worth_57 ?_
      refine lv_iand hx hb dX1_worth_58 ?_
      refine lv_if_ne (tgt := 104) hx hb dX1_worth_59 (by decide) (fun hc => ?_) (fun hc => ?_)
      · replace hf := ineg hc hf
        obtain ⟨v104, ev104, hf⟩ := obd hf
        refine lv_iinc (v := v104) (lv' := [(7, .int v104), (8, .int x47.1), (0, .ref o), (1, .int c1), (2, .int c2), (3, .int c3), (4, .int c4), (5, .int w37.2.1), (6, .int w37.2.2.1)]) hx hb dX1_worth_104 hl (k := 8) rfl (iiE ev104 (by decide)) (by decide) rfl (fun ls hl => ?_)
        refine lv_goto (tgt := 37) hx hb dX1_worth_107 (by decide) ?_
        exact hk _ (Option.some.inj hf).symm H locs ls hI (lv_sub hl [2, 3, 4, 5, 6, 7, 8, 0] rfl)
      · replace hf := ipos hc hf
        refine lv_iload hx hb dX1_worth_62 (lv_at hl 0 rfl) ?_
        refine lv_iload_n hx hb dX1_worth_64 rfl (lv_at hl 3 rfl) ?_
        refine lv_icmp_le (tgt := 71) hx hb dX1_worth_65 (by decide) (fun hc => ?_) (fun hc => ?_)
        · replace hf := ipos hc hf
          refine lv_aload_n hx hb dX1_worth_71 rfl (lv_at hl 1 rfl) ?_
          refine gget hx hb hts in_X1 hown hE.1.1 (hI.1.o 0 rfl) rfl 7 (by decide) q473 rfl dX1_worth_72 ?_
          refine lv_iload_n hx hb dX1_worth_75 rfl (lv_at hl 2 rfl) ?_
          refine lv_iload hx hb dX1_worth_76 (lv_at hl 8 rfl) ?_
          obtain ⟨x78, ex78, hf⟩ := obd hf
          refine ccallI (rest := []) hx hb hts hown hE hI hml hl.1 (mX5_net Λ Λn x47.2 c1 w37.2.2.2 _ ex78) (cwX5_net_X1 hts ⟨Nat.le_of_ble_eq_true rfl, Nat.le_of_ble_eq_true rfl⟩) (hI.1.o 4 rfl) rfl rfl ⟨Nat.le_of_ble_eq_true rfl, Nat.le_of_ble_eq_true rfl⟩ rfl rfl (lv_room (Nat.le_of_ble_eq_true rfl)) dX1_worth_78 (fun H locs hI => ?_)
          refine lv_iload hx hb dX1_worth_81 (lv_at hl 0 rfl) ?_
          refine lv_isub hx hb dX1_worth_83 ?_
          obtain ⟨v84, ev84, hf⟩ := obd hf
          refine nmI ev84 ?_
          refine lv_istore (lv' := [(9, .int v84), (8, .int x47.1), (0, .ref o), (1, .int c1), (2, .int c2), (3, .int c3), (4, .int c4), (5, .int w37.2.1), (6, .int w37.2.2.1), (7, .int w37.2.2.2)]) hx hb dX1_worth_84 hl (by decide) rfl (fun ls hl => ?_)
          refine lv_iload hx hb dX1_worth_86 (lv_at hl 0 rfl) ?_
          refine lv_iload hx hb dX1_worth_88 (lv_at hl 8 rfl) ?_
          refine lv_icmp_gt (tgt := 96) hx hb dX1_worth_90 (by decide) (fun hc => ?_) (fun hc => ?_)
          · replace hf := ipos hc hf
            refine lv_iload hx hb dX1_worth_96 (lv_at hl 9 rfl) ?_
            refine lv_istore (lv' := [(5, .int w37.2.2.2), (9, .int v84), (8, .int x47.1), (0, .ref o), (1, .int c1), (2, .int c2), (3, .int c3), (4, .int c4), (6, .int w37.2.2.1), (7, .int w37.2.2.2)]) hx hb dX1_worth_98 hl (by decide) rfl (fun ls hl => ?_)
            refine lv_iload hx hb dX1_worth_100 (lv_at hl 1 rfl) ?_
            refine lv_istore (lv' := [(6, .int v84), (5, .int w37.2.2.2), (9, .int v84), (8, .int x47.1), (0, .ref o), (1, .int c1), (2, .int c2), (3, .int c3), (4, .int c4), (7, .int w37.2.2.2)]) hx hb dX1_worth_102 hl (by decide) rfl (fun ls hl => ?_)
            obtain ⟨v104_10, ev104_10, hf⟩ := obd hf
            refine lv_iinc (v := v104_10) (lv' := [(7, .int v104_10), (6, .int v84), (5, .int w37.2.2.2), (9, .int v84), (8, .int x47.1), (0, .ref o), (1, .int c1), (2, .int c2), (3, .int c3), (4, .int c4)]) hx hb dX1_worth_104 hl (k := 9) rfl (iiE ev104_10 (by decide)) (by decide) rfl (fun ls hl => ?_)
            refine lv_goto (tgt := 37) hx hb dX1_worth_107 (by decide) ?_
            exact hk _ (Option.some.inj hf).symm H locs ls hI (lv_sub hl [5, 6, 7, 8, 9, 2, 1, 0] rfl)
          · replace hf := ineg hc hf
            refine lv_goto (tgt := 104) hx hb dX1_worth_93 (by decide) ?_
            obtain ⟨v104_11, ev104_11, hf⟩ := obd hf
            refine lv_iinc (v := v104_11) (lv' := [(7, .int v104_11), (9, .int v84), (8, .int x47.1), (0, .ref o), (1, .int c1), (2, .int c2), (3, .int c3), (4, .int c4), (5, .int w37.2.1), (6, .int w37.2.2.1)]) hx hb dX1_worth_104 hl (k := 9) rfl (iiE ev104_11 (by decide)) (by decide) rfl (fun ls hl => ?_)
            refine lv_goto (tgt := 37) hx hb dX1_worth_107 (by decide) ?_
            exact hk _ (Option.some.inj hf).symm H locs ls hI (lv_sub hl [3, 4, 5, 6, 7, 8, 9, 0] rfl)
        · replace hf := ineg hc hf
          refine lv_goto (tgt := 104) hx hb dX1_worth_68 (by decide) ?_
          obtain ⟨v104_12, ev104_12, hf⟩ := obd hf
          refine lv_iinc (v := v104_12) (lv' := [(7, .int v104_12), (8, .int x47.1), (0, .ref o), (1, .int c1), (2, .int c2), (3, .int c3), (4, .int c4), (5, .int w37.2.1), (6, .int w37.2.2.1)]) hx hb dX1_worth_104 hl (k := 8) rfl (iiE ev104_12 (by decide)) (by decide) rfl (fun ls hl => ?_)
          refine lv_goto (tgt := 37) hx hb dX1_worth_107 (by decide) ?_
          exact hk _ (Option.some.inj hf).symm H locs ls hI (lv_sub hl [2, 3, 4, 5, 6, 7, 8, 0] rfl)
  refine loopO_W (Wat := fun w37 => ∀ (H : Heap) (locs : List Loc) (ls : Array Slot), IC D J o Ld s H locs w37.1 → lv_has ls 10 [(0, .ref o), (1, .int a1), (2, .int a2), (3, .int a3), (4, .int x21), (5, .int w37.2.1), (6, .int w37.2.2.1), (7, .int w37.2.2.2)] → W p l e ({ frames := 63, cells := 2, slots := 12, locals := 3069 } : Room) s m args below meth c H locs 1 6 Q (F0 m 37 ls [])) (Wex := fun ex_ => ∀ (H : Heap) (locs : List Loc) (ls : Array Slot), IC D J o Ld s H locs ex_.1 → lv_has ls 10 [(3, .int a3), (5, .int ex_.2.1), (6, .int ex_.2.2)] → W p l e ({ frames := 63, cells := 2, slots := 12, locals := 3069 } : Room) s m args below meth c H locs 1 6 Q (F0 m 110 ls [])) (hs37 a1 a2 a3 x21) FU _ e37 he37 ?_ H locs ls hI (lv_sub hl [4, 5, 6, 7, 3, 2, 1, 0] rfl)
  · skip
    intro H locs ls hI hl
    refine lv_iload_n hx hb dX1_worth_110 rfl (lv_at hl 0 rfl) ?_
    refine lv_if_eq (tgt := 119) hx hb dX1_worth_111 (by decide) (fun hc => ?_) (fun hc => ?_)
    · replace hf := ipos hc hf
      refine lv_iload hx hb dX1_worth_119 (lv_at hl 1 rfl) ?_
      refine W.widen (k := 2) (n := 12) (Nat.le_of_ble_eq_true rfl) (Nat.le_of_ble_eq_true rfl) ?_
      exact hret H locs 121 ls _ _ hI (Option.some.inj hf).symm dX1_worth_121
    · replace hf := ineg hc hf
      refine lv_iload hx hb dX1_worth_114 (lv_at hl 2 rfl) ?_
      refine lv_goto (tgt := 121) hx hb dX1_worth_116 (by decide) ?_
      refine W.widen (k := 2) (n := 12) (Nat.le_of_ble_eq_true rfl) (Nat.le_of_ble_eq_true rfl) ?_
      exact hret H locs 121 ls _ _ hI (Option.some.inj hf).symm dX1_worth_121

theorem dsX1_can_X1 {R : Room} {s : State} {args : Array Value} {fr lo : Nat} (hts : ∀ w ∈ lw_all, w.before args s = true) (hR : fr + 1 ≤ R.frames ∧ 8 + (1 + 11) + lo ≤ R.locals) : CallB R s args RX1 545 yX1_can cX1_can 1 (none) (ws_ yX1_can cX1_can 1 (none)) ({ frames := fr, cells := 0, slots := 0, locals := lo }) 0 0 1 ∧ (Cond.static yX1_can).before args s = true :=
  va_cwS 1 hts (lw_S q1801 q1802 q133 q1803) rfl rfl rfl (by decide +kernel) hR
theorem csX1_can_X1 {R : Room} {s : State} {args : Array Value} {fr lo : Nat} (hts : ∀ w ∈ lw_all, w.before args s = true) (hR : fr + 1 ≤ R.frames ∧ 8 + (1 + 11) + lo ≤ R.locals) : CallB R s args RX1 545 yX1_can cX1_can 1 (none) (ws_ yX1_can cX1_can 1 (none)) ({ frames := fr, cells := 1, slots := 6, locals := lo }) 1 6 1 ∧ (Cond.static yX1_can).before args s = true :=
  va_cwS 1 hts (lw_S q1801 q1802 q133 q1803) rfl rfl rfl (by decide +kernel) hR
def X1_forged_J23 (τ : Cs) (a1 : Int32) (y0 : Int32) : Option (Xo) :=
  (X1_can y0).bind fun x23 =>
  Option.elim x23 (
  (ld 8 (cw τ 0 16) a1).bind fun x35 =>
  (ld 8 (cw τ 0 23) a1).bind fun x44 =>
  (X1_readFrom τ x35 x44).bind fun x45 =>
  (ld 8 (cw τ 0 25) a1).bind fun x56 =>
  if x45 = (x56 + (1 : Int32)) then
    some (.inl ((0 : Int32), τ))
  else
    some (.inl ((1 : Int32), τ))) fun n => some (.inr (n, τ))
def X1_forged (τ : Cs) (a1 : Int32) : Option Xo :=
  (X1_deedAt τ a1).bind fun x2 =>
  Sum.elim (fun (v2 : Int32 × Cs) =>
    (ld 8 (cw v2.2 0 25) a1).bind fun x13 =>
    if x13 = (-1 : Int32) then
      X1_forged_J23 v2.2 a1 (0 : Int32)
    else
      X1_forged_J23 v2.2 a1 (1 : Int32)) (fun (u : Nat × Cs) => some (.inr u)) x2
set_option maxHeartbeats 4000000 in
theorem mX1_forged (Λ : Nat → Nat → (Nat → Int32) → Int32) (Λn : Nat → Int32) (τ : Cs) (a1 : Int32) (out : Xo) (hf : X1_forged τ a1 = some out) : CXi yX1_forged cX1_forged 2 (some .boolean) 12 342 2 12 Λ Λn (fun o aK aF => [.ref o, .int a1]) out τ := by
  refine CXz.of (by decide) (fun _ _ _ => Nat.le_of_ble_eq_true rfl) ?_
  intro p l e s m args below meth c D J o z aK aV G Ld aF Q ls hst hx hb hml hown hts hE hT hret hxx hthr hI hl
  obtain ⟨H, eH⟩ : ∃ H, H = s.heap := ⟨_, rfl⟩
  obtain ⟨locs, eL⟩ : ∃ L : List Loc, L = [] := ⟨_, rfl⟩
  rw [← eH, ← eL] at hI ⊢
  have hown : s.vm.findClass RX1 = some m.cls := hown
  have hl : lv_has ls 2 [(0, .ref o), (1, .int a1)] := hl
  unfold X1_forged at hf
  have hJ23 : ∀ (τ : Cs) (y0 : Int32) (H : Heap) (locs : List Loc) (ls : Array Slot), X1_forged_J23 τ a1 y0 = some out → IC D J o Ld s H locs τ → lv_has ls 2 [(0, .ref o), (1, .int a1)] → W p l e ({ frames := 12, cells := 2, slots := 12, locals := 342 } : Room) s m args below meth c H locs 1 6 Q (F0 m 23 ls [.int y0]) := by
    intro τ y0 H locs ls hf hI hl
    unfold X1_forged_J23 at hf
    obtain ⟨x23, ex23, hf⟩ := obd hf
    rcases x23 with _ | nx23
    rotate_left
    · replace hf := oelS hf
      exact xcallS (rest := []) hx hb hts hst hown hE hT hI hml hl.1 (mX1_can y0 _ ex23) (csX1_can_X1 hts ⟨Nat.le_of_ble_eq_true rfl, Nat.le_of_ble_eq_true rfl⟩) ⟨Nat.le_of_ble_eq_true rfl, Nat.le_of_ble_eq_true rfl⟩ rfl rfl (lv_room (Nat.le_of_ble_eq_true rfl)) dX1_forged_23 (fun E ce q9 n H locs ho hn hI h1 h2 h3 => by cases ho; exact hxx H locs 23 ls _ _ _ E ce q9 _ _ hI (Option.some.inj hf).symm hn h1 h2 h3 (Nat.le_of_ble_eq_true rfl) (Nat.le_of_ble_eq_true rfl)) (fun ho => by cases ho)
    replace hf := oelN hf
    refine tcallSv (rest := []) hx hb hts hown hml hl.1 (nX1_can y0 ex23) (dsX1_can_X1 hts ⟨Nat.le_of_ble_eq_true rfl, Nat.le_of_ble_eq_true rfl⟩) ⟨Nat.le_of_ble_eq_true rfl, Nat.le_of_ble_eq_true rfl⟩ rfl rfl (lv_room (Nat.le_of_ble_eq_true rfl)) dX1_forged_23 ?_
    refine lv_aload_n hx hb dX1_forged_26 rfl (lv_at hl 0 rfl) ?_
    refine lv_aload_n hx hb dX1_forged_27 rfl (lv_at hl 0 rfl) ?_
    refine gget hx hb hts in_X1 hown hE.1.1 (hI.1.o 0 rfl) rfl 0 (by decide) q463 rfl dX1_forged_28 ?_
    refine ggetN hx hb hts in_X2 hown hE.1.1 (hI.1.w 0 (by decide) 0 rfl) rfl 16 (by decide) (hE.1.2.2.f 20 rfl) rfl dX1_forged_31 ?_
    refine lv_iload_n hx hb dX1_forged_34 rfl (lv_at hl 1 rfl) ?_
    obtain ⟨x35, ex35, hf⟩ := obd hf
    refine gald hx hb hE.1.1 0 (hI.1.w 0 (by decide) 8 rfl) rfl ex35 dX1_forged_35 ?_
    refine lv_aload_n hx hb dX1_forged_36 rfl (lv_at hl 0 rfl) ?_
    refine gget hx hb hts in_X1 hown hE.1.1 (hI.1.o 0 rfl) rfl 0 (by decide) q463 rfl dX1_forged_37 ?_
    refine ggetN hx hb hts in_X2 hown hE.1.1 (hI.1.w 0 (by decide) 0 rfl) rfl 23 (by decide) (hE.1.2.2.f 30 rfl) rfl dX1_forged_40 ?_
    refine lv_iload_n hx hb dX1_forged_43 rfl (lv_at hl 1 rfl) ?_
    obtain ⟨x44, ex44, hf⟩ := obd hf
    refine gald hx hb hE.1.1 0 (hI.1.w 0 (by decide) 15 rfl) rfl ex44 dX1_forged_44 ?_
    obtain ⟨x45, ex45, hf⟩ := obd hf
    refine ccallI (rest := []) hx hb hts hown hE hI hml hl.1 (mX1_readFrom Λ Λn τ x35 x44 _ ex45) (cwX1_readFrom_X1 hts ⟨Nat.le_of_ble_eq_true rfl, Nat.le_of_ble_eq_true rfl⟩) (hI.1.o 0 rfl) rfl rfl ⟨Nat.le_of_ble_eq_true rfl, Nat.le_of_ble_eq_true rfl⟩ rfl rfl (lv_room (Nat.le_of_ble_eq_true rfl)) dX1_forged_45 (fun H locs hI => ?_)
    refine lv_aload_n hx hb dX1_forged_48 rfl (lv_at hl 0 rfl) ?_
    refine gget hx hb hts in_X1 hown hE.1.1 (hI.1.o 0 rfl) rfl 0 (by decide) q463 rfl dX1_forged_49 ?_
    refine ggetN hx hb hts in_X2 hown hE.1.1 (hI.1.w 0 (by decide) 0 rfl) rfl 25 (by decide) (hE.1.2.2.f 32 rfl) rfl dX1_forged_52 ?_
    refine lv_iload_n hx hb dX1_forged_55 rfl (lv_at hl 1 rfl) ?_
    obtain ⟨x56, ex56, hf⟩ := obd hf
    refine gald hx hb hE.1.1 0 (hI.1.w 0 (by decide) 17 rfl) rfl ex56 dX1_forged_56 ?_
    refine lv_iconst (v := (1 : Int32)) hx hb dX1_forged_57 (by decide) ?_
    refine lv_iadd hx hb dX1_forged_58 ?_
    refine lv_icmp_eq (tgt := 66) hx hb dX1_forged_59 (by decide) (fun hc => ?_) (fun hc => ?_)
    · replace hf := ipos hc hf
      refine lv_iconst (v := (0 : Int32)) hx hb dX1_forged_66 (by decide) ?_
      refine W.widen (k := 2) (n := 12) (Nat.le_of_ble_eq_true rfl) (Nat.le_of_ble_eq_true rfl) ?_
      exact hret H locs 67 ls _ _ hI (Option.some.inj hf).symm (by decide) dX1_forged_67
    · replace hf := ineg hc hf
      refine lv_iconst (v := (1 : Int32)) hx hb dX1_forged_62 (by decide) ?_
      refine lv_goto (tgt := 67) hx hb dX1_forged_63 (by decide) ?_
      refine W.widen (k := 2) (n := 12) (Nat.le_of_ble_eq_true rfl) (Nat.le_of_ble_eq_true rfl) ?_
      exact hret H locs 67 ls _ _ hI (Option.some.inj hf).symm (by decide) dX1_forged_67
  refine lv_aload_n hx hb dX1_forged_0 rfl (lv_at hl 0 rfl) ?_
  refine lv_iload_n hx hb dX1_forged_1 rfl (lv_at hl 1 rfl) ?_
  obtain ⟨x2, ex2, hf⟩ := obd hf
  refine xcallV (rest := []) hx hb hts hst hown hE hT hI hml hl.1 (mX1_deedAt Λ Λn τ a1 _ ex2) (cwX1_deedAt_X1 hts ⟨Nat.le_of_ble_eq_true rfl, Nat.le_of_ble_eq_true rfl⟩) (hI.1.o 0 rfl) rfl rfl ⟨Nat.le_of_ble_eq_true rfl, Nat.le_of_ble_eq_true rfl⟩ rfl rfl (lv_room (Nat.le_of_ble_eq_true rfl)) dX1_forged_2 (fun E ce q9 n σ' H locs ho hn hI h1 h2 h3 => by subst ho; have hf := selR hf; exact hxx H locs 2 ls _ _ _ E ce q9 n σ' hI (Option.some.inj hf).symm hn h1 h2 h3 (Nat.le_of_ble_eq_true rfl) (Nat.le_of_ble_eq_true rfl)) (fun v2 H locs ho hI => ?_)
  subst ho
  replace hf := selL hf
  refine lv_aload_n hx hb dX1_forged_5 rfl (lv_at hl 0 rfl) ?_
  refine gget hx hb hts in_X1 hown hE.1.1 (hI.1.o 0 rfl) rfl 0 (by decide) q463 rfl dX1_forged_6 ?_
  refine ggetN hx hb hts in_X2 hown hE.1.1 (hI.1.w 0 (by decide) 0 rfl) rfl 25 (by decide) (hE.1.2.2.f 32 rfl) rfl dX1_forged_9 ?_
  refine lv_iload_n hx hb dX1_forged_12 rfl (lv_at hl 1 rfl) ?_
  obtain ⟨x13, ex13, hf⟩ := obd hf
  refine gald hx hb hE.1.1 0 (hI.1.w 0 (by decide) 17 rfl) rfl ex13 dX1_forged_13 ?_
  refine lv_iconst (v := (-1 : Int32)) hx hb dX1_forged_14 (by decide) ?_
  refine lv_icmp_eq (tgt := 22) hx hb dX1_forged_15 (by decide) (fun hc => ?_) (fun hc => ?_)
  · replace hf := ipos hc hf
    refine lv_iconst (v := (0 : Int32)) hx hb dX1_forged_22 (by decide) ?_
    exact hJ23 v2.2 (0 : Int32) H locs ls hf hI  (lv_sub hl [0, 1] rfl)
  · replace hf := ineg hc hf
    refine lv_iconst (v := (1 : Int32)) hx hb dX1_forged_18 (by decide) ?_
    refine lv_goto (tgt := 23) hx hb dX1_forged_19 (by decide) ?_
    exact hJ23 v2.2 (1 : Int32) H locs ls hf hI  (lv_sub hl [0, 1] rfl)

theorem cwX1_twoParties_X1 {R : Room} {s : State} {args : Array Value} {fr lo : Nat} (hts : ∀ w ∈ lw_all, w.before args s = true) (hR : fr + 1 ≤ R.frames ∧ 8 + (3 + 11) + lo ≤ R.locals) : CallW R s args RX1 RX1 617 yX1_twoParties cX1_twoParties 3 (none) (ws_ yX1_twoParties cX1_twoParties 3 (none)) ({ frames := fr, cells := 3, slots := 18, locals := lo }) 3 18 2 :=
  cwV 2 hts (lw_V q1980 q1982 qs52 q133 q1983) rfl rfl rfl (by decide +kernel) hR
def X1_owes (τ : Cs) (a1 : Int32) (a2 : Int32) : Option Xo :=
  (X1_twoParties τ a1 a2).bind fun x3 =>
  Sum.elim (fun (v3 : Int32 × Cs) =>
    (X1_owesNow v3.2 a1 a2).bind fun x9 =>
    some (.inl (x9, v3.2))) (fun (u : Nat × Cs) => some (.inr u)) x3
set_option maxHeartbeats 4000000 in
theorem mX1_owes (Λ : Nat → Nat → (Nat → Int32) → Int32) (Λn : Nat → Int32) (τ : Cs) (a1 : Int32) (a2 : Int32) (out : Xo) (hf : X1_owes τ a1 a2 = some out) : CXi yX1_owes cX1_owes 3 (some .int) 13 364 3 18 Λ Λn (fun o aK aF => [.ref o, .int a1, .int a2]) out τ := by
  refine CXi.of (by decide) (fun _ _ _ => Nat.le_of_ble_eq_true rfl) ?_
  intro p l e s m args below meth c D J o z aK aV G Ld aF Q ls hst hx hb hml hown hts hE hT hret hxx hthr hI hl
  obtain ⟨H, eH⟩ : ∃ H, H = s.heap := ⟨_, rfl⟩
  obtain ⟨locs, eL⟩ : ∃ L : List Loc, L = [] := ⟨_, rfl⟩
  rw [← eH, ← eL] at hI ⊢
  have hown : s.vm.findClass RX1 = some m.cls := hown
  have hl : lv_has ls 3 [(0, .ref o), (1, .int a1), (2, .int a2)] := hl
  unfold X1_owes at hf
  refine lv_aload_n hx hb dX1_owes_0 rfl (lv_at hl 0 rfl) ?_
  refine lv_iload_n hx hb dX1_owes_1 rfl (lv_at hl 1 rfl) ?_
  refine lv_iload_n hx hb dX1_owes_2 rfl (lv_at hl 2 rfl) ?_
  obtain ⟨x3, ex3, hf⟩ := obd hf
  refine xcallV (rest := []) hx hb hts hst hown hE hT hI hml hl.1 (mX1_twoParties Λ Λn τ a1 a2 _ ex3) (cwX1_twoParties_X1 hts ⟨Nat.le_of_ble_eq_true rfl, Nat.le_of_ble_eq_true rfl⟩) (hI.1.o 0 rfl) rfl rfl ⟨Nat.le_of_ble_eq_true rfl, Nat.le_of_ble_eq_true rfl⟩ rfl rfl (lv_room (Nat.le_of_ble_eq_true rfl)) dX1_owes_3 (fun E ce q9 n σ' H locs ho hn hI h1 h2 h3 => by subst ho; have hf := selR hf; exact hxx H locs 3 ls _ _ _ E ce q9 n σ' hI (Option.some.inj hf).symm hn h1 h2 h3 (Nat.le_of_ble_eq_true rfl) (Nat.le_of_ble_eq_true rfl)) (fun v3 H locs ho hI => ?_)
  subst ho
  replace hf := selL hf
  refine lv_aload_n hx hb dX1_owes_6 rfl (lv_at hl 0 rfl) ?_
  refine lv_iload_n hx hb dX1_owes_7 rfl (lv_at hl 1 rfl) ?_
  refine lv_iload_n hx hb dX1_owes_8 rfl (lv_at hl 2 rfl) ?_
  obtain ⟨x9, ex9, hf⟩ := obd hf
  refine ccallI (rest := []) hx hb hts hown hE hI hml hl.1 (mX1_owesNow Λ Λn v3.2 a1 a2 _ ex9) (cwX1_owesNow_X1 hts ⟨Nat.le_of_ble_eq_true rfl, Nat.le_of_ble_eq_true rfl⟩) (hI.1.o 0 rfl) rfl rfl ⟨Nat.le_of_ble_eq_true rfl, Nat.le_of_ble_eq_true rfl⟩ rfl rfl (lv_room (Nat.le_of_ble_eq_true rfl)) dX1_owes_9 (fun H locs hI => ?_)
  exact hret H locs 12 ls _ _ hI (Option.some.inj hf).symm dX1_owes_12

theorem cwX1_debtorsOf_X1 {R : Room} {s : State} {args : Array Value} {fr lo : Nat} (hts : ∀ w ∈ lw_all, w.before args s = true) (hR : fr + 1 ≤ R.frames ∧ 8 + (5 + 11) + lo ≤ R.locals) : CallW R s args RX1 RX1 626 yX1_debtorsOf cX1_debtorsOf 5 (some .int) (ws_ yX1_debtorsOf cX1_debtorsOf 5 (some .int)) ({ frames := fr, cells := 0, slots := 0, locals := lo }) 0 0 1 :=
  cwV 1 hts (lw_V q1995 q1997 qs54 q133 q1998) rfl rfl rfl (by decide +kernel) hR
def X1_ring_L15 (τ : Cs) (c1 : Int32) (w15 : Int32 × Int32) : Option ((Int32 × Int32) ⊕ (Int32)) :=
  if (6 : Int32) ≤ w15.2 then
    some (.inr w15.1)
  else
    (X1_debtorsOf τ w15.1).bind fun x24 =>
    (some (w15.1 ||| x24)).bind fun v28 =>
    (some (w15.2 + (1 : Int32))).bind fun v29 =>
    some (.inl (v28, v29))
def X1_ring (τ : Cs) (a1 : Int32) : Option Xo :=
  (X1_partyAt τ a1).bind fun x2 =>
  Sum.elim (fun (v2 : Int32 × Cs) =>
    (X1_debtorsOf v2.2 ((1 : Int32) <<< (a1 &&& (31 : Int32)))).bind fun x9 =>
    (loopO (X1_ring_L15 v2.2 a1) FU (x9, (0 : Int32))).bind fun e15 =>
    (X1_has e15 a1).bind fun x37 =>
    (zb x37).bind fun _ =>
    some (.inl (x37, v2.2))) (fun (u : Nat × Cs) => some (.inr u)) x2
set_option maxHeartbeats 4000000 in
theorem mX1_ring (Λ : Nat → Nat → (Nat → Int32) → Int32) (Λn : Nat → Int32) (τ : Cs) (a1 : Int32) (out : Xo) (hf : X1_ring τ a1 = some out) : CXi yX1_ring cX1_ring 4 (some .boolean) 12 342 1 6 Λ Λn (fun o aK aF => [.ref o, .int a1]) out τ := by
  refine CXz.of (by decide) (fun _ _ _ => Nat.le_of_ble_eq_true rfl) ?_
  intro p l e s m args below meth c D J o z aK aV G Ld aF Q ls hst hx hb hml hown hts hE hT hret hxx hthr hI hl
  obtain ⟨H, eH⟩ : ∃ H, H = s.heap := ⟨_, rfl⟩
  obtain ⟨locs, eL⟩ : ∃ L : List Loc, L = [] := ⟨_, rfl⟩
  rw [← eH, ← eL] at hI ⊢
  have hown : s.vm.findClass RX1 = some m.cls := hown
  have hl : lv_has ls 4 [(0, .ref o), (1, .int a1)] := hl
  unfold X1_ring at hf
  refine lv_aload_n hx hb dX1_ring_0 rfl (lv_at hl 0 rfl) ?_
  refine lv_iload_n hx hb dX1_ring_1 rfl (lv_at hl 1 rfl) ?_
  obtain ⟨x2, ex2, hf⟩ := obd hf
  refine xcallV (rest := []) hx hb hts hst hown hE hT hI hml hl.1 (mX1_partyAt Λ Λn τ a1 _ ex2) (cwX1_partyAt_X1 hts ⟨Nat.le_of_ble_eq_true rfl, Nat.le_of_ble_eq_true rfl⟩) (hI.1.o 0 rfl) rfl rfl ⟨Nat.le_of_ble_eq_true rfl, Nat.le_of_ble_eq_true rfl⟩ rfl rfl (lv_room (Nat.le_of_ble_eq_true rfl)) dX1_ring_2 (fun E ce q9 n σ' H locs ho hn hI h1 h2 h3 => by subst ho; have hf := selR hf; exact hxx H locs 2 ls _ _ _ E ce q9 n σ' hI (Option.some.inj hf).symm hn h1 h2 h3 (Nat.le_of_ble_eq_true rfl) (Nat.le_of_ble_eq_true rfl)) (fun v2 H locs ho hI => ?_)
  subst ho
  replace hf := selL hf
  refine lv_aload_n hx hb dX1_ring_5 rfl (lv_at hl 0 rfl) ?_
  refine lv_iconst (v := (1 : Int32)) hx hb dX1_ring_6 (by decide) ?_
  refine lv_iload_n hx hb dX1_ring_7 rfl (lv_at hl 1 rfl) ?_
  refine lv_ishl hx hb dX1_ring_8 ?_
  obtain ⟨x9, ex9, hf⟩ := obd hf
  refine ccallI (rest := []) hx hb hts hown hE hI hml hl.1 (mX1_debtorsOf Λ Λn v2.2 ((1 : Int32) <<< (a1 &&& (31 : Int32))) _ ex9) (cwX1_debtorsOf_X1 hts ⟨Nat.le_of_ble_eq_true rfl, Nat.le_of_ble_eq_true rfl⟩) (hI.1.o 0 rfl) rfl rfl ⟨Nat.le_of_ble_eq_true rfl, Nat.le_of_ble_eq_true rfl⟩ rfl rfl (lv_room (Nat.le_of_ble_eq_true rfl)) dX1_ring_9 (fun H locs hI => ?_)
  refine lv_istore_n (lv' := [(2, .int x9), (0, .ref o), (1, .int a1)]) hx hb dX1_ring_12 rfl hl (by decide) rfl (fun ls hl => ?_)
  refine lv_iconst (v := (0 : Int32)) hx hb dX1_ring_13 (by decide) ?_
  refine lv_istore_n (lv' := [(3, .int (0 : Int32)), (2, .int x9), (0, .ref o), (1, .int a1)]) hx hb dX1_ring_14 rfl hl (by decide) rfl (fun ls hl => ?_)
  obtain ⟨e15, he15, hf⟩ := obd hf
  have hs15 : ∀ (τ : Cs) (c1 : Int32), ∀ (w15 : Int32 × Int32) (o15 : (Int32 × Int32) ⊕ (Int32)), X1_ring_L15 τ c1 w15 = some o15 → (∀ wx_, o15 = .inl wx_ → ∀ (H : Heap) (locs : List Loc) (ls : Array Slot), IC D J o Ld s H locs τ → lv_has ls 4 [(0, .ref o), (1, .int c1), (2, .int wx_.1), (3, .int wx_.2)] → W p l e ({ frames := 12, cells := 1, slots := 6, locals := 342 } : Room) s m args below meth c H locs 1 6 Q (F0 m 15 ls [])) → (∀ ex_, o15 = .inr ex_ → ∀ (H : Heap) (locs : List Loc) (ls : Array Slot), IC D J o Ld s H locs τ → lv_has ls 4 [(1, .int c1), (2, .int ex_)] → W p l e ({ frames := 12, cells := 1, slots := 6, locals := 342 } : Room) s m args below meth c H locs 1 6 Q (F0 m 35 ls [])) → ∀ (H : Heap) (locs : List Loc) (ls : Array Slot), IC D J o Ld s H locs τ → lv_has ls 4 [(0, .ref o), (1, .int c1), (2, .int w15.1), (3, .int w15.2)] → W p l e ({ frames := 12, cells := 1, slots := 6, locals := 342 } : Room) s m args below meth c H locs 1 6 Q (F0 m 15 ls []) := by
    intro τ c1 w15 o15 hf hk hq H locs ls hI hl
    unfold X1_ring_L15 at hf
    refine lv_iload_n hx hb dX1_ring_15 rfl (lv_at hl 3 rfl) ?_
    refine lv_bipush (v := (6 : Int32)) hx hb dX1_ring_16 (by decide) ?_
    refine lv_icmp_ge (tgt := 35) hx hb dX1_ring_18 (by decide) (fun hc => ?_) (fun hc => ?_)
    · replace hf := ipos hc hf
      exact hq _ (Option.some.inj hf).symm H locs ls hI (lv_sub hl [1, 2] rfl)
    · replace hf := ineg hc hf
      refine lv_iload_n hx hb dX1_ring_21 rfl (lv_at hl 2 rfl) ?_
      refine lv_aload_n hx hb dX1_ring_22 rfl (lv_at hl 0 rfl) ?_
      refine lv_iload_n hx hb dX1_ring_23 rfl (lv_at hl 2 rfl) ?_
      obtain ⟨x24, ex24, hf⟩ := obd hf
      refine ccallI (rest := [.int w15.1]) hx hb hts hown hE hI hml hl.1 (mX1_debtorsOf Λ Λn τ w15.1 _ ex24) (cwX1_debtorsOf_X1 hts ⟨Nat.le_of_ble_eq_true rfl, Nat.le_of_ble_eq_true rfl⟩) (hI.1.o 0 rfl) rfl rfl ⟨Nat.le_of_ble_eq_true rfl, Nat.le_of_ble_eq_true rfl⟩ rfl rfl (lv_room (Nat.le_of_ble_eq_true rfl)) dX1_ring_24 (fun H locs hI => ?_)
      refine lv_ior hx hb dX1_ring_27 ?_
      obtain ⟨v28, ev28, hf⟩ := obd hf
      refine nmI ev28 ?_
      refine lv_istore_n (lv' := [(2, .int v28), (0, .ref o), (1, .int c1), (3, .int w15.2)]) hx hb dX1_ring_28 rfl hl (by decide) rfl (fun ls hl => ?_)
      obtain ⟨v29, ev29, hf⟩ := obd hf
      refine lv_iinc (v := v29) (lv' := [(3, .int v29), (2, .int v28), (0, .ref o), (1, .int c1)]) hx hb dX1_ring_29 hl (k := 3) rfl (iiE ev29 (by decide)) (by decide) rfl (fun ls hl => ?_)
      refine lv_goto (tgt := 15) hx hb dX1_ring_32 (by decide) ?_
      exact hk _ (Option.some.inj hf).symm H locs ls hI (lv_sub hl [2, 3, 1, 0] rfl)
  refine loopO_W (Wat := fun w15 => ∀ (H : Heap) (locs : List Loc) (ls : Array Slot), IC D J o Ld s H locs v2.2 → lv_has ls 4 [(0, .ref o), (1, .int a1), (2, .int w15.1), (3, .int w15.2)] → W p l e ({ frames := 12, cells := 1, slots := 6, locals := 342 } : Room) s m args below meth c H locs 1 6 Q (F0 m 15 ls [])) (Wex := fun ex_ => ∀ (H : Heap) (locs : List Loc) (ls : Array Slot), IC D J o Ld s H locs v2.2 → lv_has ls 4 [(1, .int a1), (2, .int ex_)] → W p l e ({ frames := 12, cells := 1, slots := 6, locals := 342 } : Room) s m args below meth c H locs 1 6 Q (F0 m 35 ls [])) (hs15 v2.2 a1) FU _ e15 he15 ?_ H locs ls hI (lv_sub hl [2, 3, 1, 0] rfl)
  · skip
    intro H locs ls hI hl
    refine lv_iload_n hx hb dX1_ring_35 rfl (lv_at hl 1 rfl) ?_
    refine lv_iload_n hx hb dX1_ring_36 rfl (lv_at hl 0 rfl) ?_
    obtain ⟨x37, ex37, hf⟩ := obd hf
    refine tcallS (rest := []) hx hb hts hown hml hl.1 (mX1_has e15 a1 _ ex37) (csX1_has_X1 hts ⟨Nat.le_of_ble_eq_true rfl, Nat.le_of_ble_eq_true rfl⟩) ⟨Nat.le_of_ble_eq_true rfl, Nat.le_of_ble_eq_true rfl⟩ rfl rfl (lv_room (Nat.le_of_ble_eq_true rfl)) dX1_ring_37 ?_
    obtain ⟨_, eb40, hf⟩ := obd hf
    exact hret H locs 40 ls _ _ hI (Option.some.inj hf).symm (zb_e eb40).2 dX1_ring_40

theorem cwX1_laysSales_X1 {R : Room} {s : State} {args : Array Value} {fr lo : Nat} (hts : ∀ w ∈ lw_all, w.before args s = true) (hR : fr + 1 ≤ R.frames ∧ 8 + (5 + 11) + lo ≤ R.locals) : CallW R s args RX1 RX1 636 yX1_laysSales cX1_laysSales 5 (none) (ws_ yX1_laysSales cX1_laysSales 5 (none)) ({ frames := fr, cells := 0, slots := 0, locals := lo }) 0 0 0 :=
  cwV 0 hts (lw_V q2006 q2008 qs55 q133 q2009) rfl rfl rfl (by decide +kernel) hR
def X1_buyers_L41 (Λ : Nat → Nat → (Nat → Int32) → Int32) (τ : Cs) (c1 : Int32) (c2 : Int32) (c4 : Int32) (w41 : Int32) : Option ((Int32) ⊕ (Int32)) :=
  (X1_soldBy τ c4 c2 w41).bind fun x46 =>
  (X1_soldAt c4 c2).bind fun x56 =>
  (ld 576 (co τ 8) x56).bind fun x59 =>
  if x46 = x59 then
    some (.inr w41)
  else
    (some (w41 + (1 : Int32))).bind fun v63 =>
    some (.inl v63)
def X1_buyers_L33 (Λ : Nat → Nat → (Nat → Int32) → Int32) (τ : Cs) (c1 : Int32) (w33 : Int32 × Int32 × Int32) : Option ((Int32 × Int32 × Int32) ⊕ (Int32)) :=
  if c1 < w33.2.2 then
    some (.inr w33.2.1)
  else
    (loopO (X1_buyers_L41 Λ τ c1 w33.1 w33.2.2) FU (-1 : Int32)).bind fun e41 =>
    if e41 = (-1 : Int32) then
      (some (w33.2.2 + (1 : Int32))).bind fun v80 =>
      some (.inl (w33.1, e41, v80))
    else
      (some (w33.1 ||| ((1 : Int32) <<< (e41 &&& (31 : Int32))))).bind fun v79 =>
      (some (w33.2.2 + (1 : Int32))).bind fun v80_9 =>
      some (.inl (v79, e41, v80_9))
def X1_buyers_J10 (Λ : Nat → Nat → (Nat → Int32) → Int32) (τ : Cs) (a1 : Int32) : Option (Xo) :=
  (X1_laysSales Λ τ).bind fun t11 =>
  if a1 = (-1 : Int32) then
    some (.inl ((co t11 8 0), t11))
  else
    (loopO (X1_buyers_L33 Λ t11 a1) FU ((0 : Int32), (-1 : Int32), (0 : Int32))).bind fun e33 =>
    some (.inl (e33, t11))
def X1_buyers (Λ : Nat → Nat → (Nat → Int32) → Int32) (τ : Cs) (a1 : Int32) : Option Xo :=
  if a1 = (-1 : Int32) then
    X1_buyers_J10 Λ τ a1
  else
    (X1_deedAt τ a1).bind fun x7 =>
    Sum.elim (fun (v7 : Int32 × Cs) =>
      X1_buyers_J10 Λ v7.2 a1) (fun (u : Nat × Cs) => some (.inr u)) x7
set_option maxHeartbeats 4000000 in
theorem mX1_buyers (Λ : Nat → Nat → (Nat → Int32) → Int32) (Λn : Nat → Int32) (τ : Cs) (a1 : Int32) (out : Xo) (hf : X1_buyers Λ τ a1 = some out) : CXi yX1_buyers cX1_buyers 5 (some .int) 67 3162 1 6 Λ Λn (fun o aK aF => [.ref o, .int a1]) out τ := by
  refine CXi.of (by decide) (fun _ _ _ => Nat.le_of_ble_eq_true rfl) ?_
  intro p l e s m args below meth c D J o z aK aV G Ld aF Q ls hst hx hb hml hown hts hE hT hret hxx hthr hI hl
  obtain ⟨H, eH⟩ : ∃ H, H = s.heap := ⟨_, rfl⟩
  obtain ⟨locs, eL⟩ : ∃ L : List Loc, L = [] := ⟨_, rfl⟩
  rw [← eH, ← eL] at hI ⊢
  have hown : s.vm.findClass RX1 = some m.cls := hown
  have hl : lv_has ls 5 [(0, .ref o), (1, .int a1)] := hl
  unfold X1_buyers at hf
  have hJ10 : ∀ (τ : Cs) (H : Heap) (locs : List Loc) (ls : Array Slot), X1_buyers_J10 Λ τ a1 = some out → IC D J o Ld s H locs τ → lv_has ls 5 [(0, .ref o), (1, .int a1)] → W p l e ({ frames := 67, cells := 1, slots := 6, locals := 3162 } : Room) s m args below meth c H locs 1 6 Q (F0 m 10 ls []) := by
    intro τ  H locs ls hf hI hl
    unfold X1_buyers_J10 at hf
    refine lv_aload_n hx hb dX1_buyers_10 rfl (lv_at hl 0 rfl) ?_
    obtain ⟨t11, et11, hf⟩ := obd hf
    refine ccallV (rest := []) hx hb hts hown hE hI hml hl.1 (mX1_laysSales Λ Λn τ _ et11) (cwX1_laysSales_X1 hts ⟨Nat.le_of_ble_eq_true rfl, Nat.le_of_ble_eq_true rfl⟩) (hI.1.o 0 rfl) rfl rfl ⟨Nat.le_of_ble_eq_true rfl, Nat.le_of_ble_eq_true rfl⟩ rfl rfl (lv_room (Nat.le_of_ble_eq_true rfl)) dX1_buyers_11 (fun H locs hI => ?_)
    refine lv_iload_n hx hb dX1_buyers_14 rfl (lv_at hl 1 rfl) ?_
    refine lv_iconst (v := (-1 : Int32)) hx hb dX1_buyers_15 (by decide) ?_
    refine lv_icmp_ne (tgt := 26) hx hb dX1_buyers_16 (by decide) (fun hc => ?_) (fun hc => ?_)
    · replace hf := ineg hc hf
      refine lv_iconst (v := (0 : Int32)) hx hb dX1_buyers_26 (by decide) ?_
      refine lv_istore_n (lv' := [(2, .int (0 : Int32)), (0, .ref o), (1, .int a1)]) hx hb dX1_buyers_27 rfl hl (by decide) rfl (fun ls hl => ?_)
      refine lv_iconst (v := (-1 : Int32)) hx hb dX1_buyers_28 (by decide) ?_
      refine lv_istore_n (lv' := [(3, .int (-1 : Int32)), (2, .int (0 : Int32)), (0, .ref o), (1, .int a1)]) hx hb dX1_buyers_29 rfl hl (by decide) rfl (fun ls hl => ?_)
      refine lv_iconst (v := (0 : Int32)) hx hb dX1_buyers_30 (by decide) ?_
      refine lv_istore (lv' := [(4, .int (0 : Int32)), (3, .int (-1 : Int32)), (2, .int (0 : Int32)), (0, .ref o), (1, .int a1)]) hx hb dX1_buyers_31 hl (by decide) rfl (fun ls hl => ?_)
      obtain ⟨e33, he33, hf⟩ := obd hf
      have hs33 : ∀ (τ : Cs) (c1 : Int32), ∀ (w33 : Int32 × Int32 × Int32) (o33 : (Int32 × Int32 × Int32) ⊕ (Int32)), X1_buyers_L33 Λ τ c1 w33 = some o33 → (∀ wx_, o33 = .inl wx_ → ∀ (H : Heap) (locs : List Loc) (ls : Array Slot), IC D J o Ld s H locs τ → lv_has ls 5 [(0, .ref o), (1, .int c1), (2, .int wx_.1), (3, .int wx_.2.1), (4, .int wx_.2.2)] → W p l e ({ frames := 67, cells := 1, slots := 6, locals := 3162 } : Room) s m args below meth c H locs 1 6 Q (F0 m 33 ls [])) → (∀ ex_, o33 = .inr ex_ → ∀ (H : Heap) (locs : List Loc) (ls : Array Slot), IC D J o Ld s H locs τ → lv_has ls 5 [(3, .int ex_)] → W p l e ({ frames := 67, cells := 1, slots := 6, locals := 3162 } : Room) s m args below meth c H locs 1 6 Q (F0 m 86 ls [])) → ∀ (H : Heap) (locs : List Loc) (ls : Array Slot), IC D J o Ld s H locs τ → lv_has ls 5 [(0, .ref o), (1, .int c1), (2, .int w33.1), (3, .int w33.2.1), (4, .int w33.2.2)] → W p l e ({ frames := 67, cells := 1, slots := 6, locals := 3162 } : Room) s m args below meth c H locs 1 6 Q (F0 m 33 ls []) := by
        intro τ c1 w33 o33 hf hk hq H locs ls hI hl
        unfold X1_buyers_L33 at hf
        refine lv_iload hx hb dX1_buyers_33 (lv_at hl 4 rfl) ?_
        refine lv_iload_n hx hb dX1_buyers_35 rfl (lv_at hl 1 rfl) ?_
        refine lv_icmp_gt (tgt := 86) hx hb dX1_buyers_36 (by decide) (fun hc => ?_) (fun hc => ?_)
        · replace hf := ipos hc hf
          exact hq _ (Option.some.inj hf).symm H locs ls hI (lv_sub hl [3] rfl)
        · replace hf := ineg hc hf
          refine lv_iconst (v := (-1 : Int32)) hx hb dX1_buyers_39 (by decide) ?_
          refine lv_istore_n (lv' := [(3, .int (-1 : Int32)), (0, .ref o), (1, .int c1), (2, .int w33.1), (4, .int w33.2.2)]) hx hb dX1_buyers_40 rfl hl (by decide) rfl (fun ls hl => ?_)
          obtain ⟨e41, he41, hf⟩ := obd hf
          have hs41 : ∀ (τ : Cs) (c1 : Int32) (c2 : Int32) (c4 : Int32), ∀ (w41 : Int32) (o41 : (Int32) ⊕ (Int32)), X1_buyers_L41 Λ τ c1 c2 c4 w41 = some o41 → (∀ wx_, o41 = .inl wx_ → ∀ (H : Heap) (locs : List Loc) (ls : Array Slot), IC D J o Ld s H locs τ → lv_has ls 5 [(0, .ref o), (1, .int c1), (2, .int c2), (3, .int wx_), (4, .int c4)] → W p l e ({ frames := 67, cells := 1, slots := 6, locals := 3162 } : Room) s m args below meth c H locs 1 6 Q (F0 m 41 ls [])) → (∀ ex_, o41 = .inr ex_ → ∀ (H : Heap) (locs : List Loc) (ls : Array Slot), IC D J o Ld s H locs τ → lv_has ls 5 [(0, .ref o), (1, .int c1), (2, .int c2), (3, .int ex_), (4, .int c4)] → W p l e ({ frames := 67, cells := 1, slots := 6, locals := 3162 } : Room) s m args below meth c H locs 1 6 Q (F0 m 69 ls [])) → ∀ (H : Heap) (locs : List Loc) (ls : Array Slot), IC D J o Ld s H locs τ → lv_has ls 5 [(0, .ref o), (1, .int c1), (2, .int c2), (3, .int w41), (4, .int c4)] → W p l e ({ frames := 67, cells := 1, slots := 6, locals := 3162 } : Room) s m args below meth c H locs 1 6 Q (F0 m 41 ls []) := by
            intro τ c1 c2 c4 w41 o41 hf hk hq H locs ls hI hl
            unfold X1_buyers_L41 at hf
            refine lv_aload_n hx hb dX1_buyers_41 rfl (lv_at hl 0 rfl) ?_
            refine lv_iload hx hb dX1_buyers_42 (lv_at hl 4 rfl) ?_
            refine lv_iload_n hx hb dX1_buyers_44 rfl (lv_at hl 2 rfl) ?_
            refine lv_iload_n hx hb dX1_buyers_45 rfl (lv_at hl 3 rfl) ?_
            obtain ⟨x46, ex46, hf⟩ := obd hf
            refine ccallI (rest := []) hx hb hts hown hE hI hml hl.1 (mX1_soldBy Λ Λn τ c4 c2 w41 _ ex46) (cwX1_soldBy_X1 hts ⟨Nat.le_of_ble_eq_true rfl, Nat.le_of_ble_eq_true rfl⟩) (hI.1.o 0 rfl) rfl rfl ⟨Nat.le_of_ble_eq_true rfl, Nat.le_of_ble_eq_true rfl⟩ rfl rfl (lv_room (Nat.le_of_ble_eq_true rfl)) dX1_buyers_46 (fun H locs hI => ?_)
            refine lv_aload_n hx hb dX1_buyers_49 rfl (lv_at hl 0 rfl) ?_
            refine gget hx hb hts in_X1 hown hE.1.1 (hI.1.o 0 rfl) rfl 11 (by decide) q477 rfl dX1_buyers_50 ?_
            refine lv_iload hx hb dX1_buyers_53 (lv_at hl 4 rfl) ?_
            refine lv_iload_n hx hb dX1_buyers_55 rfl (lv_at hl 2 rfl) ?_
            obtain ⟨x56, ex56, hf⟩ := obd hf
            refine tcallS (rest := [.ref (o + 90), .int x46]) hx hb hts hown hml hl.1 (mX1_soldAt c4 c2 _ ex56) (csX1_soldAt_X1 hts ⟨Nat.le_of_ble_eq_true rfl, Nat.le_of_ble_eq_true rfl⟩) ⟨Nat.le_of_ble_eq_true rfl, Nat.le_of_ble_eq_true rfl⟩ rfl rfl (lv_room (Nat.le_of_ble_eq_true rfl)) dX1_buyers_56 ?_
            obtain ⟨x59, ex59, hf⟩ := obd hf
            refine gald hx hb hE.1.1 0 (hI.1.o 9 rfl) rfl ex59 dX1_buyers_59 ?_
            refine lv_icmp_eq (tgt := 69) hx hb dX1_buyers_60 (by decide) (fun hc => ?_) (fun hc => ?_)
            · replace hf := ipos hc hf
              exact hq _ (Option.some.inj hf).symm H locs ls hI (lv_sub hl [0, 1, 2, 3, 4] rfl)
            · replace hf := ineg hc hf
              obtain ⟨v63, ev63, hf⟩ := obd hf
              refine lv_iinc (v := v63) (lv' := [(3, .int v63), (0, .ref o), (1, .int c1), (2, .int c2), (4, .int c4)]) hx hb dX1_buyers_63 hl (k := 3) rfl (iiE ev63 (by decide)) (by decide) rfl (fun ls hl => ?_)
              refine lv_goto (tgt := 41) hx hb dX1_buyers_66 (by decide) ?_
              exact hk _ (Option.some.inj hf).symm H locs ls hI (lv_sub hl [1, 2, 3, 0, 4] rfl)
          refine loopO_W (Wat := fun w41 => ∀ (H : Heap) (locs : List Loc) (ls : Array Slot), IC D J o Ld s H locs τ → lv_has ls 5 [(0, .ref o), (1, .int c1), (2, .int w33.1), (3, .int w41), (4, .int w33.2.2)] → W p l e ({ frames := 67, cells := 1, slots := 6, locals := 3162 } : Room) s m args below meth c H locs 1 6 Q (F0 m 41 ls [])) (Wex := fun ex_ => ∀ (H : Heap) (locs : List Loc) (ls : Array Slot), IC D J o Ld s H locs τ → lv_has ls 5 [(0, .ref o), (1, .int c1), (2, .int w33.1), (3, .int ex_), (4, .int w33.2.2)] → W p l e ({ frames := 67, cells := 1, slots := 6, locals := 3162 } : Room) s m args below meth c H locs 1 6 Q (F0 m 69 ls [])) (hs41 τ c1 w33.1 w33.2.2) FU _ e41 he41 ?_ H locs ls hI (lv_sub hl [1, 2, 3, 0, 4] rfl)
          · skip
            intro H locs ls hI hl
            refine lv_iload_n hx hb dX1_buyers_69 rfl (lv_at hl 3 rfl) ?_
            refine lv_iconst (v := (-1 : Int32)) hx hb dX1_buyers_70 (by decide) ?_
            refine lv_icmp_eq (tgt := 80) hx hb dX1_buyers_71 (by decide) (fun hc => ?_) (fun hc => ?_)
            · replace hf := ipos hc hf
              obtain ⟨v80, ev80, hf⟩ := obd hf
              refine lv_iinc (v := v80) (lv' := [(4, .int v80), (0, .ref o), (1, .int c1), (2, .int w33.1), (3, .int e41)]) hx hb dX1_buyers_80 hl (k := 4) rfl (iiE ev80 (by decide)) (by decide) rfl (fun ls hl => ?_)
              refine lv_goto (tgt := 33) hx hb dX1_buyers_83 (by decide) ?_
              exact hk _ (Option.some.inj hf).symm H locs ls hI (lv_sub hl [1, 2, 3, 4, 0] rfl)
            · replace hf := ineg hc hf
              refine lv_iload_n hx hb dX1_buyers_74 rfl (lv_at hl 2 rfl) ?_
              refine lv_iconst (v := (1 : Int32)) hx hb dX1_buyers_75 (by decide) ?_
              refine lv_iload_n hx hb dX1_buyers_76 rfl (lv_at hl 3 rfl) ?_
              refine lv_ishl hx hb dX1_buyers_77 ?_
              refine lv_ior hx hb dX1_buyers_78 ?_
              obtain ⟨v79, ev79, hf⟩ := obd hf
              refine nmI ev79 ?_
              refine lv_istore_n (lv' := [(2, .int v79), (0, .ref o), (1, .int c1), (3, .int e41), (4, .int w33.2.2)]) hx hb dX1_buyers_79 rfl hl (by decide) rfl (fun ls hl => ?_)
              obtain ⟨v80_9, ev80_9, hf⟩ := obd hf
              refine lv_iinc (v := v80_9) (lv' := [(4, .int v80_9), (2, .int v79), (0, .ref o), (1, .int c1), (3, .int e41)]) hx hb dX1_buyers_80 hl (k := 4) rfl (iiE ev80_9 (by decide)) (by decide) rfl (fun ls hl => ?_)
              refine lv_goto (tgt := 33) hx hb dX1_buyers_83 (by decide) ?_
              exact hk _ (Option.some.inj hf).symm H locs ls hI (lv_sub hl [2, 3, 1, 4, 0] rfl)
      refine loopO_W (Wat := fun w33 => ∀ (H : Heap) (locs : List Loc) (ls : Array Slot), IC D J o Ld s H locs t11 → lv_has ls 5 [(0, .ref o), (1, .int a1), (2, .int w33.1), (3, .int w33.2.1), (4, .int w33.2.2)] → W p l e ({ frames := 67, cells := 1, slots := 6, locals := 3162 } : Room) s m args below meth c H locs 1 6 Q (F0 m 33 ls [])) (Wex := fun ex_ => ∀ (H : Heap) (locs : List Loc) (ls : Array Slot), IC D J o Ld s H locs t11 → lv_has ls 5 [(3, .int ex_)] → W p l e ({ frames := 67, cells := 1, slots := 6, locals := 3162 } : Room) s m args below meth c H locs 1 6 Q (F0 m 86 ls [])) (hs33 t11 a1) FU _ e33 he33 ?_ H locs ls hI (lv_sub hl [3, 4, 2, 1, 0] rfl)
      · skip
        intro H locs ls hI hl
        refine lv_iload_n hx hb dX1_buyers_86 rfl (lv_at hl 0 rfl) ?_
        exact hret H locs 87 ls _ _ hI (Option.some.inj hf).symm dX1_buyers_87
    · replace hf := ipos hc hf
      refine lv_aload_n hx hb dX1_buyers_19 rfl (lv_at hl 0 rfl) ?_
      refine gget hx hb hts in_X1 hown hE.1.1 (hI.1.o 0 rfl) rfl 11 (by decide) q477 rfl dX1_buyers_20 ?_
      refine lv_iconst (v := (0 : Int32)) hx hb dX1_buyers_23 (by decide) ?_
      refine galdc hx hb hE.1.1 0 0 (hI.1.o 9 rfl) rfl (by decide) (by decide) dX1_buyers_24 ?_
      exact hret H locs 25 ls _ _ hI (Option.some.inj hf).symm dX1_buyers_25
  refine lv_iload_n hx hb dX1_buyers_0 rfl (lv_at hl 1 rfl) ?_
  refine lv_iconst (v := (-1 : Int32)) hx hb dX1_buyers_1 (by decide) ?_
  refine lv_icmp_eq (tgt := 10) hx hb dX1_buyers_2 (by decide) (fun hc => ?_) (fun hc => ?_)
  · replace hf := ipos hc hf
    refine W.widen (k := 1) (n := 6) (Nat.le_of_ble_eq_true rfl) (Nat.le_of_ble_eq_true rfl) ?_
    exact hJ10 τ H locs ls hf hI  (lv_sub hl [0, 1] rfl)
  · replace hf := ineg hc hf
    refine lv_aload_n hx hb dX1_buyers_5 rfl (lv_at hl 0 rfl) ?_
    refine lv_iload_n hx hb dX1_buyers_6 rfl (lv_at hl 1 rfl) ?_
    obtain ⟨x7, ex7, hf⟩ := obd hf
    refine xcallV (rest := []) hx hb hts hst hown hE hT hI hml hl.1 (mX1_deedAt Λ Λn τ a1 _ ex7) (cwX1_deedAt_X1 hts ⟨Nat.le_of_ble_eq_true rfl, Nat.le_of_ble_eq_true rfl⟩) (hI.1.o 0 rfl) rfl rfl ⟨Nat.le_of_ble_eq_true rfl, Nat.le_of_ble_eq_true rfl⟩ rfl rfl (lv_room (Nat.le_of_ble_eq_true rfl)) dX1_buyers_7 (fun E ce q9 n σ' H locs ho hn hI h1 h2 h3 => by subst ho; have hf := selR hf; exact hxx H locs 7 ls _ _ _ E ce q9 n σ' hI (Option.some.inj hf).symm hn h1 h2 h3 (Nat.le_of_ble_eq_true rfl) (Nat.le_of_ble_eq_true rfl)) (fun v7 H locs ho hI => ?_)
    subst ho
    replace hf := selL hf
    exact hJ10 v7.2 H locs ls hf hI  (lv_sub hl [0, 1] rfl)

theorem cwX1_heirHas_X1 {R : Room} {s : State} {args : Array Value} {fr lo : Nat} (hts : ∀ w ∈ lw_all, w.before args s = true) (hR : fr + 1 ≤ R.frames ∧ 8 + (7 + 11) + lo ≤ R.locals) : CallW R s args RX1 RX1 639 yX1_heirHas cX1_heirHas 7 (some .int) (ws_ yX1_heirHas cX1_heirHas 7 (some .int)) ({ frames := fr, cells := 0, slots := 0, locals := lo }) 0 0 4 :=
  cwV 4 hts (lw_V q2024 q2026 qs57 q133 q2027) rfl rfl rfl (by decide +kernel) hR
def X1_rests_L57 (Λ : Nat → Nat → (Nat → Int32) → Int32) (c1 : Int32) (c2 : Int32) (c3 : Int32) (c5 : Int32) (w57 : Cs × Int32 × Int32) : Option ((Cs × Int32 × Int32) ⊕ (Cs × Int32)) :=
  if (2 : Int32) ≤ w57.2.2 then
    some (.inr (w57.1, w57.2.1))
  else
    (X1_heirHas Λ w57.1 c1 c3 c5 w57.2.2).bind fun x70 =>
    (X1_heirHas Λ x70.2 c1 c3 ((1 : Int32) - c5) w57.2.2).bind fun x82 =>
    if x70.1 < x82.1 then
      (some (w57.2.2 + (1 : Int32))).bind fun v127 =>
      some (.inl (x82.2, w57.2.1, v127))
    else
      (X1_heirHas Λ x82.2 c2 c3 w57.2.2 c5).bind fun x95 =>
      (X1_heirHas Λ x95.2 c2 c3 ((1 : Int32) - w57.2.2) c5).bind fun x107 =>
      if x95.1 < x107.1 then
        (some (w57.2.2 + (1 : Int32))).bind fun v127_8 =>
        some (.inl (x107.2, w57.2.1, v127_8))
      else
        (some (w57.2.1 ||| ((1 : Int32) <<< ((((2 : Int32) * c5) + w57.2.2) &&& (31 : Int32))))).bind fun v125 =>
        (some (w57.2.2 + (1 : Int32))).bind fun v127_10 =>
        some (.inl (x107.2, v125, v127_10))
def X1_rests_L48 (Λ : Nat → Nat → (Nat → Int32) → Int32) (c1 : Int32) (c2 : Int32) (c3 : Int32) (w48 : Cs × Int32 × Int32) : Option ((Cs × Int32 × Int32) ⊕ (Cs × Int32)) :=
  if (2 : Int32) ≤ w48.2.2 then
    some (.inr (w48.1, w48.2.1))
  else
    (loopO (X1_rests_L57 Λ c1 c2 c3 w48.2.2) FU (w48.1, w48.2.1, (0 : Int32))).bind fun e57 =>
    (some (w48.2.2 + (1 : Int32))).bind fun v133 =>
    some (.inl (e57.1, e57.2, v133))
def X1_rests_J25 (Λ : Nat → Nat → (Nat → Int32) → Int32) (τ : Cs) (a1 : Int32) (a2 : Int32) (a3 : Int32) (y0 : Int32) : Option (Xo) :=
  (X1_demand y0).bind fun x25 =>
  Option.elim x25 (
  (ld 8 (cw τ 0 26) a3).bind fun x36 =>
  if x36 = (0 : Int32) then
    (loopO (X1_rests_L48 Λ a1 a2 a3) FU (τ, (0 : Int32), (0 : Int32))).bind fun e48 =>
    some (.inl (e48.2, e48.1))
  else
    some (.inl ((-1 : Int32), τ))) fun n => some (.inr (n, τ))
def X1_rests (Λ : Nat → Nat → (Nat → Int32) → Int32) (τ : Cs) (a1 : Int32) (a2 : Int32) (a3 : Int32) : Option Xo :=
  (X1_partyAt τ a1).bind fun x2 =>
  Sum.elim (fun (v2 : Int32 × Cs) =>
    (X1_partyAt v2.2 a2).bind fun x7 =>
    Sum.elim (fun (v7 : Int32 × Cs) =>
      (X1_deedAt v7.2 a3).bind fun x12 =>
      Sum.elim (fun (v12 : Int32 × Cs) =>
        if a1 = a2 then
          X1_rests_J25 Λ v12.2 a1 a2 a3 (0 : Int32)
        else
          X1_rests_J25 Λ v12.2 a1 a2 a3 (1 : Int32)) (fun (u : Nat × Cs) => some (.inr u)) x12) (fun (u : Nat × Cs) => some (.inr u)) x7) (fun (u : Nat × Cs) => some (.inr u)) x2
set_option maxHeartbeats 4000000 in
theorem mX1_rests (Λ : Nat → Nat → (Nat → Int32) → Int32) (Λn : Nat → Int32) (τ : Cs) (a1 : Int32) (a2 : Int32) (a3 : Int32) (out : Xo) (hf : X1_rests Λ τ a1 a2 a3 = some out) : CXi yX1_rests cX1_rests 7 (some .int) 63 3072 4 24 Λ Λn (fun o aK aF => [.ref o, .int a1, .int a2, .int a3]) out τ := by
  refine CXi.of (by decide) (fun _ _ _ => Nat.le_of_ble_eq_true rfl) ?_
  intro p l e s m args below meth c D J o z aK aV G Ld aF Q ls hst hx hb hml hown hts hE hT hret hxx hthr hI hl
  obtain ⟨H, eH⟩ : ∃ H, H = s.heap := ⟨_, rfl⟩
  obtain ⟨locs, eL⟩ : ∃ L : List Loc, L = [] := ⟨_, rfl⟩
  rw [← eH, ← eL] at hI ⊢
  have hown : s.vm.findClass RX1 = some m.cls := hown
  have hl : lv_has ls 7 [(0, .ref o), (1, .int a1), (2, .int a2), (3, .int a3)] := hl
  unfold X1_rests at hf
  have hJ25 : ∀ (τ : Cs) (y0 : Int32) (H : Heap) (locs : List Loc) (ls : Array Slot), X1_rests_J25 Λ τ a1 a2 a3 y0 = some out → IC D J o Ld s H locs τ → lv_has ls 7 [(0, .ref o), (1, .int a1), (2, .int a2), (3, .int a3)] → W p l e ({ frames := 63, cells := 4, slots := 24, locals := 3072 } : Room) s m args below meth c H locs 3 18 Q (F0 m 25 ls [.int y0]) := by
    intro τ y0 H locs ls hf hI hl
    unfold X1_rests_J25 at hf
    obtain ⟨x25, ex25, hf⟩ := obd hf
    rcases x25 with _ | nx25
    rotate_left
    · replace hf := oelS hf
      exact xcallS (rest := []) hx hb hts hst hown hE hT hI hml hl.1 (mX1_demand y0 _ ex25) (csX1_demand_X1 hts ⟨Nat.le_of_ble_eq_true rfl, Nat.le_of_ble_eq_true rfl⟩) ⟨Nat.le_of_ble_eq_true rfl, Nat.le_of_ble_eq_true rfl⟩ rfl rfl (lv_room (Nat.le_of_ble_eq_true rfl)) dX1_rests_25 (fun E ce q9 n H locs ho hn hI h1 h2 h3 => by cases ho; exact hxx H locs 25 ls _ _ _ E ce q9 _ _ hI (Option.some.inj hf).symm hn h1 h2 h3 (Nat.le_of_ble_eq_true rfl) (Nat.le_of_ble_eq_true rfl)) (fun ho => by cases ho)
    replace hf := oelN hf
    refine tcallSv (rest := []) hx hb hts hown hml hl.1 (nX1_demand y0 ex25) (dsX1_demand_X1 hts ⟨Nat.le_of_ble_eq_true rfl, Nat.le_of_ble_eq_true rfl⟩) ⟨Nat.le_of_ble_eq_true rfl, Nat.le_of_ble_eq_true rfl⟩ rfl rfl (lv_room (Nat.le_of_ble_eq_true rfl)) dX1_rests_25 ?_
    refine lv_aload_n hx hb dX1_rests_28 rfl (lv_at hl 0 rfl) ?_
    refine gget hx hb hts in_X1 hown hE.1.1 (hI.1.o 0 rfl) rfl 0 (by decide) q463 rfl dX1_rests_29 ?_
    refine ggetN hx hb hts in_X2 hown hE.1.1 (hI.1.w 0 (by decide) 0 rfl) rfl 26 (by decide) (hE.1.2.2.f 33 rfl) rfl dX1_rests_32 ?_
    refine lv_iload_n hx hb dX1_rests_35 rfl (lv_at hl 3 rfl) ?_
    obtain ⟨x36, ex36, hf⟩ := obd hf
    refine gald hx hb hE.1.1 0 (hI.1.w 0 (by decide) 18 rfl) rfl ex36 dX1_rests_36 ?_
    refine lv_if_eq (tgt := 42) hx hb dX1_rests_37 (by decide) (fun hc => ?_) (fun hc => ?_)
    · replace hf := ipos hc hf
      refine lv_iconst (v := (0 : Int32)) hx hb dX1_rests_42 (by decide) ?_
      refine lv_istore (lv' := [(4, .int (0 : Int32)), (0, .ref o), (1, .int a1), (2, .int a2), (3, .int a3)]) hx hb dX1_rests_43 hl (by decide) rfl (fun ls hl => ?_)
      refine lv_iconst (v := (0 : Int32)) hx hb dX1_rests_45 (by decide) ?_
      refine lv_istore (lv' := [(5, .int (0 : Int32)), (4, .int (0 : Int32)), (0, .ref o), (1, .int a1), (2, .int a2), (3, .int a3)]) hx hb dX1_rests_46 hl (by decide) rfl (fun ls hl => ?_)
      obtain ⟨e48, he48, hf⟩ := obd hf
      have hs48 : ∀ (c1 : Int32) (c2 : Int32) (c3 : Int32), ∀ (w48 : Cs × Int32 × Int32) (o48 : (Cs × Int32 × Int32) ⊕ (Cs × Int32)), X1_rests_L48 Λ c1 c2 c3 w48 = some o48 → (∀ wx_, o48 = .inl wx_ → ∀ (H : Heap) (locs : List Loc) (ls : Array Slot), IC D J o Ld s H locs wx_.1 → lv_has ls 7 [(0, .ref o), (1, .int c1), (2, .int c2), (3, .int c3), (4, .int wx_.2.1), (5, .int wx_.2.2)] → W p l e ({ frames := 63, cells := 4, slots := 24, locals := 3072 } : Room) s m args below meth c H locs 3 18 Q (F0 m 48 ls [])) → (∀ ex_, o48 = .inr ex_ → ∀ (H : Heap) (locs : List Loc) (ls : Array Slot), IC D J o Ld s H locs ex_.1 → lv_has ls 7 [(4, .int ex_.2)] → W p l e ({ frames := 63, cells := 4, slots := 24, locals := 3072 } : Room) s m args below meth c H locs 3 18 Q (F0 m 139 ls [])) → ∀ (H : Heap) (locs : List Loc) (ls : Array Slot), IC D J o Ld s H locs w48.1 → lv_has ls 7 [(0, .ref o), (1, .int c1), (2, .int c2), (3, .int c3), (4, .int w48.2.1), (5, .int w48.2.2)] → W p l e ({ frames := 63, cells := 4, slots := 24, locals := 3072 } : Room) s m args below meth c H locs 3 18 Q (F0 m 48 ls []) := by
        intro c1 c2 c3 w48 o48 hf hk hq H locs ls hI hl
        unfold X1_rests_L48 at hf
        refine lv_iload hx hb dX1_rests_48 (lv_at hl 5 rfl) ?_
        refine lv_iconst (v := (2 : Int32)) hx hb dX1_rests_50 (by decide) ?_
        refine lv_icmp_ge (tgt := 139) hx hb dX1_rests_51 (by decide) (fun hc => ?_) (fun hc => ?_)
        · replace hf := ipos hc hf
          exact hq _ (Option.some.inj hf).symm H locs ls hI (lv_sub hl [4] rfl)
        · replace hf := ineg hc hf
          refine lv_iconst (v := (0 : Int32)) hx hb dX1_rests_54 (by decide) ?_
          refine lv_istore (lv' := [(6, .int (0 : Int32)), (0, .ref o), (1, .int c1), (2, .int c2), (3, .int c3), (4, .int w48.2.1), (5, .int w48.2.2)]) hx hb dX1_rests_55 hl (by decide) rfl (fun ls hl => ?_)
          obtain ⟨e57, he57, hf⟩ := obd hf
          have hs57 : ∀ (c1 : Int32) (c2 : Int32) (c3 : Int32) (c5 : Int32), ∀ (w57 : Cs × Int32 × Int32) (o57 : (Cs × Int32 × Int32) ⊕ (Cs × Int32)), X1_rests_L57 Λ c1 c2 c3 c5 w57 = some o57 → (∀ wx_, o57 = .inl wx_ → ∀ (H : Heap) (locs : List Loc) (ls : Array Slot), IC D J o Ld s H locs wx_.1 → lv_has ls 7 [(0, .ref o), (1, .int c1), (2, .int c2), (3, .int c3), (4, .int wx_.2.1), (5, .int c5), (6, .int wx_.2.2)] → W p l e ({ frames := 63, cells := 4, slots := 24, locals := 3072 } : Room) s m args below meth c H locs 3 18 Q (F0 m 57 ls [])) → (∀ ex_, o57 = .inr ex_ → ∀ (H : Heap) (locs : List Loc) (ls : Array Slot), IC D J o Ld s H locs ex_.1 → lv_has ls 7 [(0, .ref o), (1, .int c1), (2, .int c2), (3, .int c3), (4, .int ex_.2), (5, .int c5)] → W p l e ({ frames := 63, cells := 4, slots := 24, locals := 3072 } : Room) s m args below meth c H locs 3 18 Q (F0 m 133 ls [])) → ∀ (H : Heap) (locs : List Loc) (ls : Array Slot), IC D J o Ld s H locs w57.1 → lv_has ls 7 [(0, .ref o), (1, .int c1), (2, .int c2), (3, .int c3), (4, .int w57.2.1), (5, .int c5), (6, .int w57.2.2)] → W p l e ({ frames := 63, cells := 4, slots := 24, locals := 3072 } : Room) s m args below meth c H locs 3 18 Q (F0 m 57 ls []) := by
            intro c1 c2 c3 c5 w57 o57 hf hk hq H locs ls hI hl
            unfold X1_rests_L57 at hf
            refine lv_iload hx hb dX1_rests_57 (lv_at hl 6 rfl) ?_
            refine lv_iconst (v := (2 : Int32)) hx hb dX1_rests_59 (by decide) ?_
            refine lv_icmp_ge (tgt := 133) hx hb dX1_rests_60 (by decide) (fun hc => ?_) (fun hc => ?_)
            · replace hf := ipos hc hf
              exact hq _ (Option.some.inj hf).symm H locs ls hI (lv_sub hl [0, 1, 2, 3, 4, 5] rfl)
            · replace hf := ineg hc hf
              refine lv_aload_n hx hb dX1_rests_63 rfl (lv_at hl 0 rfl) ?_
              refine lv_iload_n hx hb dX1_rests_64 rfl (lv_at hl 1 rfl) ?_
              refine lv_iload_n hx hb dX1_rests_65 rfl (lv_at hl 3 rfl) ?_
              refine lv_iload hx hb dX1_rests_66 (lv_at hl 5 rfl) ?_
              refine lv_iload hx hb dX1_rests_68 (lv_at hl 6 rfl) ?_
              obtain ⟨x70, ex70, hf⟩ := obd hf
              refine ccallI (rest := []) hx hb hts hown hE hI hml hl.1 (mX1_heirHas Λ Λn w57.1 c1 c3 c5 w57.2.2 _ _ ex70) (cwX1_heirHas_X1 hts ⟨Nat.le_of_ble_eq_true rfl, Nat.le_of_ble_eq_true rfl⟩) (hI.1.o 0 rfl) rfl rfl ⟨Nat.le_of_ble_eq_true rfl, Nat.le_of_ble_eq_true rfl⟩ rfl rfl (lv_room (Nat.le_of_ble_eq_true rfl)) dX1_rests_70 (fun H locs hI => ?_)
              refine lv_aload_n hx hb dX1_rests_73 rfl (lv_at hl 0 rfl) ?_
              refine lv_iload_n hx hb dX1_rests_74 rfl (lv_at hl 1 rfl) ?_
              refine lv_iload_n hx hb dX1_rests_75 rfl (lv_at hl 3 rfl) ?_
              refine lv_iconst (v := (1 : Int32)) hx hb dX1_rests_76 (by decide) ?_
              refine lv_iload hx hb dX1_rests_77 (lv_at hl 5 rfl) ?_
              refine lv_isub hx hb dX1_rests_79 ?_
              refine lv_iload hx hb dX1_rests_80 (lv_at hl 6 rfl) ?_
              obtain ⟨x82, ex82, hf⟩ := obd hf
              refine ccallI (rest := [.int x70.1]) hx hb hts hown hE hI hml hl.1 (mX1_heirHas Λ Λn x70.2 c1 c3 ((1 : Int32) - c5) w57.2.2 _ _ ex82) (cwX1_heirHas_X1 hts ⟨Nat.le_of_ble_eq_true rfl, Nat.le_of_ble_eq_true rfl⟩) (hI.1.o 0 rfl) rfl rfl ⟨Nat.le_of_ble_eq_true rfl, Nat.le_of_ble_eq_true rfl⟩ rfl rfl (lv_room (Nat.le_of_ble_eq_true rfl)) dX1_rests_82 (fun H locs hI => ?_)
              refine lv_icmp_lt (tgt := 127) hx hb dX1_rests_85 (by decide) (fun hc => ?_) (fun hc => ?_)
              · replace hf := ipos hc hf
                obtain ⟨v127, ev127, hf⟩ := obd hf
                refine lv_iinc (v := v127) (lv' := [(6, .int v127), (0, .ref o), (1, .int c1), (2, .int c2), (3, .int c3), (4, .int w57.2.1), (5, .int c5)]) hx hb dX1_rests_127 hl (k := 6) rfl (iiE ev127 (by decide)) (by decide) rfl (fun ls hl => ?_)
                refine lv_goto (tgt := 57) hx hb dX1_rests_130 (by decide) ?_
                exact hk _ (Option.some.inj hf).symm H locs ls hI (lv_sub hl [1, 2, 3, 4, 5, 6, 0] rfl)
              · replace hf := ineg hc hf
                refine lv_aload_n hx hb dX1_rests_88 rfl (lv_at hl 0 rfl) ?_
                refine lv_iload_n hx hb dX1_rests_89 rfl (lv_at hl 2 rfl) ?_
                refine lv_iload_n hx hb dX1_rests_90 rfl (lv_at hl 3 rfl) ?_
                refine lv_iload hx hb dX1_rests_91 (lv_at hl 6 rfl) ?_
                refine lv_iload hx hb dX1_rests_93 (lv_at hl 5 rfl) ?_
                obtain ⟨x95, ex95, hf⟩ := obd hf
                refine ccallI (rest := []) hx hb hts hown hE hI hml hl.1 (mX1_heirHas Λ Λn x82.2 c2 c3 w57.2.2 c5 _ _ ex95) (cwX1_heirHas_X1 hts ⟨Nat.le_of_ble_eq_true rfl, Nat.le_of_ble_eq_true rfl⟩) (hI.1.o 0 rfl) rfl rfl ⟨Nat.le_of_ble_eq_true rfl, Nat.le_of_ble_eq_true rfl⟩ rfl rfl (lv_room (Nat.le_of_ble_eq_true rfl)) dX1_rests_95 (fun H locs hI => ?_)
                refine lv_aload_n hx hb dX1_rests_98 rfl (lv_at hl 0 rfl) ?_
                refine lv_iload_n hx hb dX1_rests_99 rfl (lv_at hl 2 rfl) ?_
                refine lv_iload_n hx hb dX1_rests_100 rfl (lv_at hl 3 rfl) ?_
                refine lv_iconst (v := (1 : Int32)) hx hb dX1_rests_101 (by decide) ?_
                refine lv_iload hx hb dX1_rests_102 (lv_at hl 6 rfl) ?_
                refine lv_isub hx hb dX1_rests_104 ?_
                refine lv_iload hx hb dX1_rests_105 (lv_at hl 5 rfl) ?_
                obtain ⟨x107, ex107, hf⟩ := obd hf
                refine ccallI (rest := [.int x95.1]) hx hb hts hown hE hI hml hl.1 (mX1_heirHas Λ Λn x95.2 c2 c3 ((1 : Int32) - w57.2.2) c5 _ _ ex107) (cwX1_heirHas_X1 hts ⟨Nat.le_of_ble_eq_true rfl, Nat.le_of_ble_eq_true rfl⟩) (hI.1.o 0 rfl) rfl rfl ⟨Nat.le_of_ble_eq_true rfl, Nat.le_of_ble_eq_true rfl⟩ rfl rfl (lv_room (Nat.le_of_ble_eq_true rfl)) dX1_rests_107 (fun H locs hI => ?_)
                refine lv_icmp_lt (tgt := 127) hx hb dX1_rests_110 (by decide) (fun hc => ?_) (fun hc => ?_)
                · replace hf := ipos hc hf
                  obtain ⟨v127_8, ev127_8, hf⟩ := obd hf
                  refine lv_iinc (v := v127_8) (lv' := [(6, .int v127_8), (0, .ref o), (1, .int c1), (2, .int c2), (3, .int c3), (4, .int w57.2.1), (5, .int c5)]) hx hb dX1_rests_127 hl (k := 6) rfl (iiE ev127_8 (by decide)) (by decide) rfl (fun ls hl => ?_)
                  refine lv_goto (tgt := 57) hx hb dX1_rests_130 (by decide) ?_
                  exact hk _ (Option.some.inj hf).symm H locs ls hI (lv_sub hl [1, 2, 3, 4, 5, 6, 0] rfl)
                · replace hf := ineg hc hf
                  refine lv_iload hx hb dX1_rests_113 (lv_at hl 4 rfl) ?_
                  refine lv_iconst (v := (1 : Int32)) hx hb dX1_rests_115 (by decide) ?_
                  refine lv_iconst (v := (2 : Int32)) hx hb dX1_rests_116 (by decide) ?_
                  refine lv_iload hx hb dX1_rests_117 (lv_at hl 5 rfl) ?_
                  refine lv_imul hx hb dX1_rests_119 ?_
                  refine lv_iload hx hb dX1_rests_120 (lv_at hl 6 rfl) ?_
                  refine lv_iadd hx hb dX1_rests_122 ?_
                  refine lv_ishl hx hb dX1_rests_123 ?_
                  refine lv_ior hx hb dX1_rests_124 ?_
                  obtain ⟨v125, ev125, hf⟩ := obd hf
                  refine nmI ev125 ?_
                  refine lv_istore (lv' := [(4, .int v125), (0, .ref o), (1, .int c1), (2, .int c2), (3, .int c3), (5, .int c5), (6, .int w57.2.2)]) hx hb dX1_rests_125 hl (by decide) rfl (fun ls hl => ?_)
                  obtain ⟨v127_10, ev127_10, hf⟩ := obd hf
                  refine lv_iinc (v := v127_10) (lv' := [(6, .int v127_10), (4, .int v125), (0, .ref o), (1, .int c1), (2, .int c2), (3, .int c3), (5, .int c5)]) hx hb dX1_rests_127 hl (k := 6) rfl (iiE ev127_10 (by decide)) (by decide) rfl (fun ls hl => ?_)
                  refine lv_goto (tgt := 57) hx hb dX1_rests_130 (by decide) ?_
                  exact hk _ (Option.some.inj hf).symm H locs ls hI (lv_sub hl [2, 3, 4, 5, 1, 6, 0] rfl)
          refine loopO_W (Wat := fun w57 => ∀ (H : Heap) (locs : List Loc) (ls : Array Slot), IC D J o Ld s H locs w57.1 → lv_has ls 7 [(0, .ref o), (1, .int c1), (2, .int c2), (3, .int c3), (4, .int w57.2.1), (5, .int w48.2.2), (6, .int w57.2.2)] → W p l e ({ frames := 63, cells := 4, slots := 24, locals := 3072 } : Room) s m args below meth c H locs 3 18 Q (F0 m 57 ls [])) (Wex := fun ex_ => ∀ (H : Heap) (locs : List Loc) (ls : Array Slot), IC D J o Ld s H locs ex_.1 → lv_has ls 7 [(0, .ref o), (1, .int c1), (2, .int c2), (3, .int c3), (4, .int ex_.2), (5, .int w48.2.2)] → W p l e ({ frames := 63, cells := 4, slots := 24, locals := 3072 } : Room) s m args below meth c H locs 3 18 Q (F0 m 133 ls [])) (hs57 c1 c2 c3 w48.2.2) FU _ e57 he57 ?_ H locs ls hI (lv_sub hl [1, 2, 3, 4, 5, 6, 0] rfl)
          · skip
            intro H locs ls hI hl
            obtain ⟨v133, ev133, hf⟩ := obd hf
            refine lv_iinc (v := v133) (lv' := [(5, .int v133), (0, .ref o), (1, .int c1), (2, .int c2), (3, .int c3), (4, .int e57.2)]) hx hb dX1_rests_133 hl (k := 5) rfl (iiE ev133 (by decide)) (by decide) rfl (fun ls hl => ?_)
            refine lv_goto (tgt := 48) hx hb dX1_rests_136 (by decide) ?_
            exact hk _ (Option.some.inj hf).symm H locs ls hI (lv_sub hl [1, 2, 3, 4, 5, 0] rfl)
      refine loopO_W (Wat := fun w48 => ∀ (H : Heap) (locs : List Loc) (ls : Array Slot), IC D J o Ld s H locs w48.1 → lv_has ls 7 [(0, .ref o), (1, .int a1), (2, .int a2), (3, .int a3), (4, .int w48.2.1), (5, .int w48.2.2)] → W p l e ({ frames := 63, cells := 4, slots := 24, locals := 3072 } : Room) s m args below meth c H locs 3 18 Q (F0 m 48 ls [])) (Wex := fun ex_ => ∀ (H : Heap) (locs : List Loc) (ls : Array Slot), IC D J o Ld s H locs ex_.1 → lv_has ls 7 [(4, .int ex_.2)] → W p l e ({ frames := 63, cells := 4, slots := 24, locals := 3072 } : Room) s m args below meth c H locs 3 18 Q (F0 m 139 ls [])) (hs48 a1 a2 a3) FU _ e48 he48 ?_ H locs ls hI (lv_sub hl [2, 3, 4, 5, 1, 0] rfl)
      · skip
        intro H locs ls hI hl
        refine lv_iload hx hb dX1_rests_139 (lv_at hl 0 rfl) ?_
        refine W.widen (k := 4) (n := 24) (Nat.le_of_ble_eq_true rfl) (Nat.le_of_ble_eq_true rfl) ?_
        exact hret H locs 141 ls _ _ hI (Option.some.inj hf).symm dX1_rests_141
    · replace hf := ineg hc hf
      refine lv_iconst (v := (-1 : Int32)) hx hb dX1_rests_40 (by decide) ?_
      refine W.widen (k := 4) (n := 24) (Nat.le_of_ble_eq_true rfl) (Nat.le_of_ble_eq_true rfl) ?_
      exact hret H locs 41 ls _ _ hI (Option.some.inj hf).symm dX1_rests_41
  refine lv_aload_n hx hb dX1_rests_0 rfl (lv_at hl 0 rfl) ?_
  refine lv_iload_n hx hb dX1_rests_1 rfl (lv_at hl 1 rfl) ?_
  obtain ⟨x2, ex2, hf⟩ := obd hf
  refine xcallV (rest := []) hx hb hts hst hown hE hT hI hml hl.1 (mX1_partyAt Λ Λn τ a1 _ ex2) (cwX1_partyAt_X1 hts ⟨Nat.le_of_ble_eq_true rfl, Nat.le_of_ble_eq_true rfl⟩) (hI.1.o 0 rfl) rfl rfl ⟨Nat.le_of_ble_eq_true rfl, Nat.le_of_ble_eq_true rfl⟩ rfl rfl (lv_room (Nat.le_of_ble_eq_true rfl)) dX1_rests_2 (fun E ce q9 n σ' H locs ho hn hI h1 h2 h3 => by subst ho; have hf := selR hf; exact hxx H locs 2 ls _ _ _ E ce q9 n σ' hI (Option.some.inj hf).symm hn h1 h2 h3 (Nat.le_of_ble_eq_true rfl) (Nat.le_of_ble_eq_true rfl)) (fun v2 H locs ho hI => ?_)
  subst ho
  replace hf := selL hf
  refine lv_aload_n hx hb dX1_rests_5 rfl (lv_at hl 0 rfl) ?_
  refine lv_iload_n hx hb dX1_rests_6 rfl (lv_at hl 2 rfl) ?_
  obtain ⟨x7, ex7, hf⟩ := obd hf
  refine xcallV (rest := []) hx hb hts hst hown hE hT hI hml hl.1 (mX1_partyAt Λ Λn v2.2 a2 _ ex7) (cwX1_partyAt_X1 hts ⟨Nat.le_of_ble_eq_true rfl, Nat.le_of_ble_eq_true rfl⟩) (hI.1.o 0 rfl) rfl rfl ⟨Nat.le_of_ble_eq_true rfl, Nat.le_of_ble_eq_true rfl⟩ rfl rfl (lv_room (Nat.le_of_ble_eq_true rfl)) dX1_rests_7 (fun E ce q9 n σ' H locs ho hn hI h1 h2 h3 => by subst ho; have hf := selR hf; exact hxx H locs 7 ls _ _ _ E ce q9 n σ' hI (Option.some.inj hf).symm hn h1 h2 h3 (Nat.le_of_ble_eq_true rfl) (Nat.le_of_ble_eq_true rfl)) (fun v7 H locs ho hI => ?_)
  subst ho
  replace hf := selL hf
  refine lv_aload_n hx hb dX1_rests_10 rfl (lv_at hl 0 rfl) ?_
  refine lv_iload_n hx hb dX1_rests_11 rfl (lv_at hl 3 rfl) ?_
  obtain ⟨x12, ex12, hf⟩ := obd hf
  refine xcallV (rest := []) hx hb hts hst hown hE hT hI hml hl.1 (mX1_deedAt Λ Λn v7.2 a3 _ ex12) (cwX1_deedAt_X1 hts ⟨Nat.le_of_ble_eq_true rfl, Nat.le_of_ble_eq_true rfl⟩) (hI.1.o 0 rfl) rfl rfl ⟨Nat.le_of_ble_eq_true rfl, Nat.le_of_ble_eq_true rfl⟩ rfl rfl (lv_room (Nat.le_of_ble_eq_true rfl)) dX1_rests_12 (fun E ce q9 n σ' H locs ho hn hI h1 h2 h3 => by subst ho; have hf := selR hf; exact hxx H locs 12 ls _ _ _ E ce q9 n σ' hI (Option.some.inj hf).symm hn h1 h2 h3 (Nat.le_of_ble_eq_true rfl) (Nat.le_of_ble_eq_true rfl)) (fun v12 H locs ho hI => ?_)
  subst ho
  replace hf := selL hf
  refine lv_iload_n hx hb dX1_rests_15 rfl (lv_at hl 1 rfl) ?_
  refine lv_iload_n hx hb dX1_rests_16 rfl (lv_at hl 2 rfl) ?_
  refine lv_icmp_eq (tgt := 24) hx hb dX1_rests_17 (by decide) (fun hc => ?_) (fun hc => ?_)
  · replace hf := ipos hc hf
    refine lv_iconst (v := (0 : Int32)) hx hb dX1_rests_24 (by decide) ?_
    exact hJ25 v12.2 (0 : Int32) H locs ls hf hI  (lv_sub hl [0, 1, 2, 3] rfl)
  · replace hf := ineg hc hf
    refine lv_iconst (v := (1 : Int32)) hx hb dX1_rests_20 (by decide) ?_
    refine lv_goto (tgt := 25) hx hb dX1_rests_21 (by decide) ?_
    exact hJ25 v12.2 (1 : Int32) H locs ls hf hI  (lv_sub hl [0, 1, 2, 3] rfl)

def X1_odds_L36 (τ : Cs) (c1 : Int32) (c2 : Int32) (w36 : Int64 × Int32) : Option ((Int64 × Int32) ⊕ (Int64)) :=
  if c1 ≤ w36.2 then
    some (.inr w36.1)
  else
    (some (w36.1 * (100 : Int64))).bind fun v48 =>
    (some (w36.2 + (1 : Int32))).bind fun v50 =>
    some (.inl (v48, v50))
def X1_odds_L85 (τ : Cs) (c1 : Int32) (c2 : Int32) (c3 : Int64) (c5 : Int64) (c7 : Int32) (w85 : Int64 × Int32) : Option ((Int64 × Int32) ⊕ (Int64)) :=
  if c1 ≤ w85.2 then
    some (.inr w85.1)
  else
    (X1_has c7 w85.2).bind fun x97 =>
    if x97 = (0 : Int32) then
      (some (w85.1 * (((100 : Int32) - (cw τ 0 0 6)).toInt64))).bind fun v126 =>
      (some (w85.2 + (1 : Int32))).bind fun v128 =>
      some (.inl (v126, v128))
    else
      (some (w85.1 * ((cw τ 0 0 6).toInt64))).bind fun v126_8 =>
      (some (w85.2 + (1 : Int32))).bind fun v128_9 =>
      some (.inl (v126_8, v128_9))
def X1_odds_L59 (τ : Cs) (c1 : Int32) (c2 : Int32) (c5 : Int64) (w59 : Int64 × Int32) : Option ((Int64 × Int32) ⊕ (Int64)) :=
  if ((1 : Int32) <<< (c1 &&& (31 : Int32))) ≤ w59.2 then
    some (.inr w59.1)
  else
    (J16_bitCount w59.2).bind fun x69 =>
    if c2 ≤ x69 then
      (loopO (X1_odds_L85 τ c1 c2 w59.1 c5 w59.2) FU ((1 : Int64), (0 : Int32))).bind fun e85 =>
      (some (w59.1 + e85)).bind fun v138 =>
      (some (w59.2 + (1 : Int32))).bind fun v139 =>
      some (.inl (v138, v139))
    else
      (some (w59.2 + (1 : Int32))).bind fun v139_12 =>
      some (.inl (w59.1, v139_12))
def X1_odds_J25 (τ : Cs) (a1 : Int32) (a2 : Int32) (y0 : Int32) : Option (Xo) :=
  (X1_demand y0).bind fun x25 =>
  Option.elim x25 (
  (loopO (X1_odds_L36 τ a1 a2) FU ((1 : Int64), (0 : Int32))).bind fun e36 =>
  (loopO (X1_odds_L59 τ a1 a2 e36) FU ((0 : Int64), (0 : Int32))).bind fun e59 =>
  (dnzL e36).bind fun _ =>
  some (.inl (((((10000 : Int64) * e59) / e36).toInt32), τ))) fun n => some (.inr (n, τ))
def X1_odds_J24 (τ : Cs) (a1 : Int32) (a2 : Int32) : Option (Xo) :=
  X1_odds_J25 τ a1 a2 (0 : Int32)
def X1_odds (τ : Cs) (a1 : Int32) (a2 : Int32) : Option Xo :=
  (X1_in a1 (0 : Int32) (6 : Int32)).bind fun x4 =>
  if x4 = (0 : Int32) then
    X1_odds_J24 τ a1 a2
  else
    (X1_in a2 (0 : Int32) (6 : Int32)).bind fun x14 =>
    if x14 = (0 : Int32) then
      X1_odds_J24 τ a1 a2
    else
      X1_odds_J25 τ a1 a2 (1 : Int32)
set_option maxHeartbeats 4000000 in
theorem mX1_odds (Λ : Nat → Nat → (Nat → Int32) → Int32) (Λn : Nat → Int32) (τ : Cs) (a1 : Int32) (a2 : Int32) (out : Xo) (hf : X1_odds τ a1 a2 = some out) : CXi yX1_odds cX1_odds 11 (some .int) 11 320 1 6 Λ Λn (fun o aK aF => [.ref o, .int a1, .int a2]) out τ := by
  refine CXi.of (by decide) (fun _ _ _ => Nat.le_of_ble_eq_true rfl) ?_
  intro p l e s m args below meth c D J o z aK aV G Ld aF Q ls hst hx hb hml hown hts hE hT hret hxx hthr hI hl
  obtain ⟨H, eH⟩ : ∃ H, H = s.heap := ⟨_, rfl⟩
  obtain ⟨locs, eL⟩ : ∃ L : List Loc, L = [] := ⟨_, rfl⟩
  rw [← eH, ← eL] at hI ⊢
  have hown : s.vm.findClass RX1 = some m.cls := hown
  have hl : lv_has ls 11 [(0, .ref o), (1, .int a1), (2, .int a2)] := hl
  unfold X1_odds at hf
  have hJ25 : ∀ (τ : Cs) (y0 : Int32) (H : Heap) (locs : List Loc) (ls : Array Slot), X1_odds_J25 τ a1 a2 y0 = some out → IC D J o Ld s H locs τ → lv_has ls 11 [(0, .ref o), (1, .int a1), (2, .int a2)] → W p l e ({ frames := 11, cells := 1, slots := 6, locals := 320 } : Room) s m args below meth c H locs 0 0 Q (F0 m 25 ls [.int y0]) := by
    intro τ y0 H locs ls hf hI hl
    unfold X1_odds_J25 at hf
    obtain ⟨x25, ex25, hf⟩ := obd hf
    rcases x25 with _ | nx25
    rotate_left
    · replace hf := oelS hf
      exact xcallS (rest := []) hx hb hts hst hown hE hT hI hml hl.1 (mX1_demand y0 _ ex25) (csX1_demand_X1 hts ⟨Nat.le_of_ble_eq_true rfl, Nat.le_of_ble_eq_true rfl⟩) ⟨Nat.le_of_ble_eq_true rfl, Nat.le_of_ble_eq_true rfl⟩ rfl rfl (lv_room (Nat.le_of_ble_eq_true rfl)) dX1_odds_25 (fun E ce q9 n H locs ho hn hI h1 h2 h3 => by cases ho; exact hxx H locs 25 ls _ _ _ E ce q9 _ _ hI (Option.some.inj hf).symm hn h1 h2 h3 (Nat.le_of_ble_eq_true rfl) (Nat.le_of_ble_eq_true rfl)) (fun ho => by cases ho)
    replace hf := oelN hf
    refine tcallSv (rest := []) hx hb hts hown hml hl.1 (nX1_demand y0 ex25) (dsX1_demand_X1 hts ⟨Nat.le_of_ble_eq_true rfl, Nat.le_of_ble_eq_true rfl⟩) ⟨Nat.le_of_ble_eq_true rfl, Nat.le_of_ble_eq_true rfl⟩ rfl rfl (lv_room (Nat.le_of_ble_eq_true rfl)) dX1_odds_25 ?_
    refine lv_lconst (v := (0 : Int64)) hx hb dX1_odds_28 (by decide) ?_
    refine lv_lstore_n (lv' := [(3, .long (0 : Int64)), (0, .ref o), (1, .int a1), (2, .int a2)]) hx hb dX1_odds_29 rfl hl (by decide) rfl (fun ls hl => ?_)
    refine lv_lconst (v := (1 : Int64)) hx hb dX1_odds_30 (by decide) ?_
    refine lv_lstore (lv' := [(5, .long (1 : Int64)), (3, .long (0 : Int64)), (0, .ref o), (1, .int a1), (2, .int a2)]) hx hb dX1_odds_31 hl (by decide) rfl (fun ls hl => ?_)
    refine lv_iconst (v := (0 : Int32)) hx hb dX1_odds_33 (by decide) ?_
    refine lv_istore (lv' := [(7, .int (0 : Int32)), (5, .long (1 : Int64)), (3, .long (0 : Int64)), (0, .ref o), (1, .int a1), (2, .int a2)]) hx hb dX1_odds_34 hl (by decide) rfl (fun ls hl => ?_)
    obtain ⟨e36, he36, hf⟩ := obd hf
    have hs36 : ∀ (τ : Cs) (c1 : Int32) (c2 : Int32), ∀ (w36 : Int64 × Int32) (o36 : (Int64 × Int32) ⊕ (Int64)), X1_odds_L36 τ c1 c2 w36 = some o36 → (∀ wx_, o36 = .inl wx_ → ∀ (H : Heap) (locs : List Loc) (ls : Array Slot), IC D J o Ld s H locs τ → lv_has ls 11 [(0, .ref o), (1, .int c1), (2, .int c2), (3, .long (0 : Int64)), (5, .long wx_.1), (7, .int wx_.2)] → W p l e ({ frames := 11, cells := 1, slots := 6, locals := 320 } : Room) s m args below meth c H locs 0 0 Q (F0 m 36 ls [])) → (∀ ex_, o36 = .inr ex_ → ∀ (H : Heap) (locs : List Loc) (ls : Array Slot), IC D J o Ld s H locs τ → lv_has ls 11 [(0, .ref o), (1, .int c1), (2, .int c2), (3, .long (0 : Int64)), (5, .long ex_)] → W p l e ({ frames := 11, cells := 1, slots := 6, locals := 320 } : Room) s m args below meth c H locs 0 0 Q (F0 m 56 ls [])) → ∀ (H : Heap) (locs : List Loc) (ls : Array Slot), IC D J o Ld s H locs τ → lv_has ls 11 [(0, .ref o), (1, .int c1), (2, .int c2), (3, .long (0 : Int64)), (5, .long w36.1), (7, .int w36.2)] → W p l e ({ frames := 11, cells := 1, slots := 6, locals := 320 } : Room) s m args below meth c H locs 0 0 Q (F0 m 36 ls []) := by
      intro τ c1 c2 w36 o36 hf hk hq H locs ls hI hl
      unfold X1_odds_L36 at hf
      refine lv_iload hx hb dX1_odds_36 (lv_at hl 5 rfl) ?_
      refine lv_iload_n hx hb dX1_odds_38 rfl (lv_at hl 1 rfl) ?_
      refine lv_icmp_ge (tgt := 56) hx hb dX1_odds_39 (by decide) (fun hc => ?_) (fun hc => ?_)
      · replace hf := ipos hc hf
        exact hq _ (Option.some.inj hf).symm H locs ls hI (lv_sub hl [0, 1, 2, 3, 4] rfl)
      · replace hf := ineg hc hf
        refine lv_lload hx hb dX1_odds_42 (lv_at hl 4 rfl) ?_
        refine lv_ldc2 hx hb hown (hts _ q2035) dX1_odds_44 ?_
        refine lv_lmul hx hb dX1_odds_47 ?_
        obtain ⟨v48, ev48, hf⟩ := obd hf
        refine nmL ev48 ?_
        refine lv_lstore (lv' := [(5, .long v48), (0, .ref o), (1, .int c1), (2, .int c2), (3, .long (0 : Int64)), (7, .int w36.2)]) hx hb dX1_odds_48 hl (by decide) rfl (fun ls hl => ?_)
        obtain ⟨v50, ev50, hf⟩ := obd hf
        refine lv_iinc (v := v50) (lv' := [(7, .int v50), (5, .long v48), (0, .ref o), (1, .int c1), (2, .int c2), (3, .long (0 : Int64))]) hx hb dX1_odds_50 hl (k := 5) rfl (iiE ev50 (by decide)) (by decide) rfl (fun ls hl => ?_)
        refine lv_goto (tgt := 36) hx hb dX1_odds_53 (by decide) ?_
        exact hk _ (Option.some.inj hf).symm H locs ls hI (lv_sub hl [2, 3, 4, 5, 1, 0] rfl)
    refine loopO_W (Wat := fun w36 => ∀ (H : Heap) (locs : List Loc) (ls : Array Slot), IC D J o Ld s H locs τ → lv_has ls 11 [(0, .ref o), (1, .int a1), (2, .int a2), (3, .long (0 : Int64)), (5, .long w36.1), (7, .int w36.2)] → W p l e ({ frames := 11, cells := 1, slots := 6, locals := 320 } : Room) s m args below meth c H locs 0 0 Q (F0 m 36 ls [])) (Wex := fun ex_ => ∀ (H : Heap) (locs : List Loc) (ls : Array Slot), IC D J o Ld s H locs τ → lv_has ls 11 [(0, .ref o), (1, .int a1), (2, .int a2), (3, .long (0 : Int64)), (5, .long ex_)] → W p l e ({ frames := 11, cells := 1, slots := 6, locals := 320 } : Room) s m args below meth c H locs 0 0 Q (F0 m 56 ls [])) (hs36 τ a1 a2) FU _ e36 he36 ?_ H locs ls hI (lv_sub hl [3, 4, 5, 2, 1, 0] rfl)
    · skip
      intro H locs ls hI hl
      refine lv_iconst (v := (0 : Int32)) hx hb dX1_odds_56 (by decide) ?_
      refine lv_istore (lv' := [(7, .int (0 : Int32)), (0, .ref o), (1, .int a1), (2, .int a2), (3, .long (0 : Int64)), (5, .long e36)]) hx hb dX1_odds_57 hl (by decide) rfl (fun ls hl => ?_)
      obtain ⟨e59, he59, hf⟩ := obd hf
      have hs59 : ∀ (τ : Cs) (c1 : Int32) (c2 : Int32) (c5 : Int64), ∀ (w59 : Int64 × Int32) (o59 : (Int64 × Int32) ⊕ (Int64)), X1_odds_L59 τ c1 c2 c5 w59 = some o59 → (∀ wx_, o59 = .inl wx_ → ∀ (H : Heap) (locs : List Loc) (ls : Array Slot), IC D J o Ld s H locs τ → lv_has ls 11 [(0, .ref o), (1, .int c1), (2, .int c2), (3, .long wx_.1), (5, .long c5), (7, .int wx_.2)] → W p l e ({ frames := 11, cells := 1, slots := 6, locals := 320 } : Room) s m args below meth c H locs 0 0 Q (F0 m 59 ls [])) → (∀ ex_, o59 = .inr ex_ → ∀ (H : Heap) (locs : List Loc) (ls : Array Slot), IC D J o Ld s H locs τ → lv_has ls 11 [(3, .long ex_), (5, .long c5)] → W p l e ({ frames := 11, cells := 1, slots := 6, locals := 320 } : Room) s m args below meth c H locs 0 0 Q (F0 m 145 ls [])) → ∀ (H : Heap) (locs : List Loc) (ls : Array Slot), IC D J o Ld s H locs τ → lv_has ls 11 [(0, .ref o), (1, .int c1), (2, .int c2), (3, .long w59.1), (5, .long c5), (7, .int w59.2)] → W p l e ({ frames := 11, cells := 1, slots := 6, locals := 320 } : Room) s m args below meth c H locs 0 0 Q (F0 m 59 ls []) := by
        intro τ c1 c2 c5 w59 o59 hf hk hq H locs ls hI hl
        unfold X1_odds_L59 at hf
        refine lv_iload hx hb dX1_odds_59 (lv_at hl 5 rfl) ?_
        refine lv_iconst (v := (1 : Int32)) hx hb dX1_odds_61 (by decide) ?_
        refine lv_iload_n hx hb dX1_odds_62 rfl (lv_at hl 1 rfl) ?_
        refine lv_ishl hx hb dX1_odds_63 ?_
        refine lv_icmp_ge (tgt := 145) hx hb dX1_odds_64 (by decide) (fun hc => ?_) (fun hc => ?_)
        · replace hf := ipos hc hf
          exact hq _ (Option.some.inj hf).symm H locs ls hI (lv_sub hl [3, 4] rfl)
        · replace hf := ineg hc hf
          refine lv_iload hx hb dX1_odds_67 (lv_at hl 5 rfl) ?_
          obtain ⟨x69, ex69, hf⟩ := obd hf
          refine tcallS (rest := []) hx hb hts hown hml hl.1 (mJ16_bitCount w59.2 _ ex69) (csJ16_bitCount_X1 hts ⟨Nat.le_of_ble_eq_true rfl, Nat.le_of_ble_eq_true rfl⟩) ⟨Nat.le_of_ble_eq_true rfl, Nat.le_of_ble_eq_true rfl⟩ rfl rfl (lv_room (Nat.le_of_ble_eq_true rfl)) dX1_odds_69 ?_
          refine lv_iload_n hx hb dX1_odds_72 rfl (lv_at hl 2 rfl) ?_
          refine lv_icmp_ge (tgt := 79) hx hb dX1_odds_73 (by decide) (fun hc => ?_) (fun hc => ?_)
          · replace hf := ipos hc hf
            refine lv_lconst (v := (1 : Int64)) hx hb dX1_odds_79 (by decide) ?_
            refine lv_lstore (lv' := [(8, .long (1 : Int64)), (0, .ref o), (1, .int c1), (2, .int c2), (3, .long w59.1), (5, .long c5), (7, .int w59.2)]) hx hb dX1_odds_80 hl (by decide) rfl (fun ls hl => ?_)
            refine lv_iconst (v := (0 : Int32)) hx hb dX1_odds_82 (by decide) ?_
            refine lv_istore (lv' := [(10, .int (0 : Int32)), (8, .long (1 : Int64)), (0, .ref o), (1, .int c1), (2, .int c2), (3, .long w59.1), (5, .long c5), (7, .int w59.2)]) hx hb dX1_odds_83 hl (by decide) rfl (fun ls hl => ?_)
            obtain ⟨e85, he85, hf⟩ := obd hf
            have hs85 : ∀ (τ : Cs) (c1 : Int32) (c2 : Int32) (c3 : Int64) (c5 : Int64) (c7 : Int32), ∀ (w85 : Int64 × Int32) (o85 : (Int64 × Int32) ⊕ (Int64)), X1_odds_L85 τ c1 c2 c3 c5 c7 w85 = some o85 → (∀ wx_, o85 = .inl wx_ → ∀ (H : Heap) (locs : List Loc) (ls : Array Slot), IC D J o Ld s H locs τ → lv_has ls 11 [(0, .ref o), (1, .int c1), (2, .int c2), (3, .long c3), (5, .long c5), (7, .int c7), (8, .long wx_.1), (10, .int wx_.2)] → W p l e ({ frames := 11, cells := 1, slots := 6, locals := 320 } : Room) s m args below meth c H locs 0 0 Q (F0 m 85 ls [])) → (∀ ex_, o85 = .inr ex_ → ∀ (H : Heap) (locs : List Loc) (ls : Array Slot), IC D J o Ld s H locs τ → lv_has ls 11 [(0, .ref o), (1, .int c1), (2, .int c2), (3, .long c3), (5, .long c5), (7, .int c7), (8, .long ex_)] → W p l e ({ frames := 11, cells := 1, slots := 6, locals := 320 } : Room) s m args below meth c H locs 0 0 Q (F0 m 134 ls [])) → ∀ (H : Heap) (locs : List Loc) (ls : Array Slot), IC D J o Ld s H locs τ → lv_has ls 11 [(0, .ref o), (1, .int c1), (2, .int c2), (3, .long c3), (5, .long c5), (7, .int c7), (8, .long w85.1), (10, .int w85.2)] → W p l e ({ frames := 11, cells := 1, slots := 6, locals := 320 } : Room) s m args below meth c H locs 0 0 Q (F0 m 85 ls []) := by
              intro τ c1 c2 c3 c5 c7 w85 o85 hf hk hq H locs ls hI hl
              unfold X1_odds_L85 at hf
              refine lv_iload hx hb dX1_odds_85 (lv_at hl 7 rfl) ?_
              refine lv_iload_n hx hb dX1_odds_87 rfl (lv_at hl 1 rfl) ?_
              refine lv_icmp_ge (tgt := 134) hx hb dX1_odds_88 (by decide) (fun hc => ?_) (fun hc => ?_)
              · replace hf := ipos hc hf
                exact hq _ (Option.some.inj hf).symm H locs ls hI (lv_sub hl [0, 1, 2, 3, 4, 5, 6] rfl)
              · replace hf := ineg hc hf
                refine lv_lload hx hb dX1_odds_91 (lv_at hl 6 rfl) ?_
                refine lv_iload hx hb dX1_odds_93 (lv_at hl 5 rfl) ?_
                refine lv_iload hx hb dX1_odds_95 (lv_at hl 7 rfl) ?_
                obtain ⟨x97, ex97, hf⟩ := obd hf
                refine tcallS (rest := [.long w85.1]) hx hb hts hown hml hl.1 (mX1_has c7 w85.2 _ ex97) (csX1_has_X1 hts ⟨Nat.le_of_ble_eq_true rfl, Nat.le_of_ble_eq_true rfl⟩) ⟨Nat.le_of_ble_eq_true rfl, Nat.le_of_ble_eq_true rfl⟩ rfl rfl (lv_room (Nat.le_of_ble_eq_true rfl)) dX1_odds_97 ?_
                refine lv_if_eq (tgt := 114) hx hb dX1_odds_100 (by decide) (fun hc => ?_) (fun hc => ?_)
                · replace hf := ipos hc hf
                  refine lv_bipush (v := (100 : Int32)) hx hb dX1_odds_114 (by decide) ?_
                  refine lv_aload_n hx hb dX1_odds_116 rfl (lv_at hl 0 rfl) ?_
                  refine gget hx hb hts in_X1 hown hE.1.1 (hI.1.o 0 rfl) rfl 0 (by decide) q463 rfl dX1_odds_117 ?_
                  refine ggetN hx hb hts in_X2 hown hE.1.1 (hI.1.w 0 (by decide) 0 rfl) rfl 6 (by decide) (hE.1.2.2.f 8 rfl) rfl dX1_odds_120 ?_
                  refine lv_isub hx hb dX1_odds_123 ?_
                  refine lv_i2l (v := ((100 : Int32) - (cw τ 0 0 6)).toInt64) hx hb dX1_odds_124 rfl ?_
                  refine lv_lmul hx hb dX1_odds_125 ?_
                  obtain ⟨v126, ev126, hf⟩ := obd hf
                  refine nmL ev126 ?_
                  refine lv_lstore (lv' := [(8, .long v126), (0, .ref o), (1, .int c1), (2, .int c2), (3, .long c3), (5, .long c5), (7, .int c7), (10, .int w85.2)]) hx hb dX1_odds_126 hl (by decide) rfl (fun ls hl => ?_)
                  obtain ⟨v128, ev128, hf⟩ := obd hf
                  refine lv_iinc (v := v128) (lv' := [(10, .int v128), (8, .long v126), (0, .ref o), (1, .int c1), (2, .int c2), (3, .long c3), (5, .long c5), (7, .int c7)]) hx hb dX1_odds_128 hl (k := 7) rfl (iiE ev128 (by decide)) (by decide) rfl (fun ls hl => ?_)
                  refine lv_goto (tgt := 85) hx hb dX1_odds_131 (by decide) ?_
                  exact hk _ (Option.some.inj hf).symm H locs ls hI (lv_sub hl [2, 3, 4, 5, 6, 7, 1, 0] rfl)
                · replace hf := ineg hc hf
                  refine lv_aload_n hx hb dX1_odds_103 rfl (lv_at hl 0 rfl) ?_
                  refine gget hx hb hts in_X1 hown hE.1.1 (hI.1.o 0 rfl) rfl 0 (by decide) q463 rfl dX1_odds_104 ?_
                  refine ggetN hx hb hts in_X2 hown hE.1.1 (hI.1.w 0 (by decide) 0 rfl) rfl 6 (by decide) (hE.1.2.2.f 8 rfl) rfl dX1_odds_107 ?_
                  refine lv_i2l (v := (cw τ 0 0 6).toInt64) hx hb dX1_odds_110 rfl ?_
                  refine lv_goto (tgt := 125) hx hb dX1_odds_111 (by decide) ?_
                  refine lv_lmul hx hb dX1_odds_125 ?_
                  obtain ⟨v126_8, ev126_8, hf⟩ := obd hf
                  refine nmL ev126_8 ?_
                  refine lv_lstore (lv' := [(8, .long v126_8), (0, .ref o), (1, .int c1), (2, .int c2), (3, .long c3), (5, .long c5), (7, .int c7), (10, .int w85.2)]) hx hb dX1_odds_126 hl (by decide) rfl (fun ls hl => ?_)
                  obtain ⟨v128_9, ev128_9, hf⟩ := obd hf
                  refine lv_iinc (v := v128_9) (lv' := [(10, .int v128_9), (8, .long v126_8), (0, .ref o), (1, .int c1), (2, .int c2), (3, .long c3), (5, .long c5), (7, .int c7)]) hx hb dX1_odds_128 hl (k := 7) rfl (iiE ev128_9 (by decide)) (by decide) rfl (fun ls hl => ?_)
                  refine lv_goto (tgt := 85) hx hb dX1_odds_131 (by decide) ?_
                  exact hk _ (Option.some.inj hf).symm H locs ls hI (lv_sub hl [2, 3, 4, 5, 6, 7, 1, 0] rfl)
            refine loopO_W (Wat := fun w85 => ∀ (H : Heap) (locs : List Loc) (ls : Array Slot), IC D J o Ld s H locs τ → lv_has ls 11 [(0, .ref o), (1, .int c1), (2, .int c2), (3, .long w59.1), (5, .long c5), (7, .int w59.2), (8, .long w85.1), (10, .int w85.2)] → W p l e ({ frames := 11, cells := 1, slots := 6, locals := 320 } : Room) s m args below meth c H locs 0 0 Q (F0 m 85 ls [])) (Wex := fun ex_ => ∀ (H : Heap) (locs : List Loc) (ls : Array Slot), IC D J o Ld s H locs τ → lv_has ls 11 [(0, .ref o), (1, .int c1), (2, .int c2), (3, .long w59.1), (5, .long c5), (7, .int w59.2), (8, .long ex_)] → W p l e ({ frames := 11, cells := 1, slots := 6, locals := 320 } : Room) s m args below meth c H locs 0 0 Q (F0 m 134 ls [])) (hs85 τ c1 c2 w59.1 c5 w59.2) FU _ e85 he85 ?_ H locs ls hI (lv_sub hl [2, 3, 4, 5, 6, 7, 1, 0] rfl)
            · skip
              intro H locs ls hI hl
              refine lv_lload_n hx hb dX1_odds_134 rfl (lv_at hl 3 rfl) ?_
              refine lv_lload hx hb dX1_odds_135 (lv_at hl 6 rfl) ?_
              refine lv_ladd hx hb dX1_odds_137 ?_
              obtain ⟨v138, ev138, hf⟩ := obd hf
              refine nmL ev138 ?_
              refine lv_lstore_n (lv' := [(3, .long v138), (0, .ref o), (1, .int c1), (2, .int c2), (5, .long c5), (7, .int w59.2), (8, .long e85)]) hx hb dX1_odds_138 rfl hl (by decide) rfl (fun ls hl => ?_)
              obtain ⟨v139, ev139, hf⟩ := obd hf
              refine lv_iinc (v := v139) (lv' := [(7, .int v139), (3, .long v138), (0, .ref o), (1, .int c1), (2, .int c2), (5, .long c5), (8, .long e85)]) hx hb dX1_odds_139 hl (k := 5) rfl (iiE ev139 (by decide)) (by decide) rfl (fun ls hl => ?_)
              refine lv_goto (tgt := 59) hx hb dX1_odds_142 (by decide) ?_
              exact hk _ (Option.some.inj hf).symm H locs ls hI (lv_sub hl [2, 3, 4, 1, 5, 0] rfl)
          · replace hf := ineg hc hf
            refine lv_goto (tgt := 139) hx hb dX1_odds_76 (by decide) ?_
            obtain ⟨v139_12, ev139_12, hf⟩ := obd hf
            refine lv_iinc (v := v139_12) (lv' := [(7, .int v139_12), (0, .ref o), (1, .int c1), (2, .int c2), (3, .long w59.1), (5, .long c5)]) hx hb dX1_odds_139 hl (k := 5) rfl (iiE ev139_12 (by decide)) (by decide) rfl (fun ls hl => ?_)
            refine lv_goto (tgt := 59) hx hb dX1_odds_142 (by decide) ?_
            exact hk _ (Option.some.inj hf).symm H locs ls hI (lv_sub hl [1, 2, 3, 4, 5, 0] rfl)
      refine loopO_W (Wat := fun w59 => ∀ (H : Heap) (locs : List Loc) (ls : Array Slot), IC D J o Ld s H locs τ → lv_has ls 11 [(0, .ref o), (1, .int a1), (2, .int a2), (3, .long w59.1), (5, .long e36), (7, .int w59.2)] → W p l e ({ frames := 11, cells := 1, slots := 6, locals := 320 } : Room) s m args below meth c H locs 0 0 Q (F0 m 59 ls [])) (Wex := fun ex_ => ∀ (H : Heap) (locs : List Loc) (ls : Array Slot), IC D J o Ld s H locs τ → lv_has ls 11 [(3, .long ex_), (5, .long e36)] → W p l e ({ frames := 11, cells := 1, slots := 6, locals := 320 } : Room) s m args below meth c H locs 0 0 Q (F0 m 145 ls [])) (hs59 τ a1 a2 e36) FU _ e59 he59 ?_ H locs ls hI (lv_sub hl [1, 2, 3, 4, 5, 0] rfl)
      · skip
        intro H locs ls hI hl
        refine lv_ldc2 hx hb hown (hts _ q2036) dX1_odds_145 ?_
        refine lv_lload_n hx hb dX1_odds_148 rfl (lv_at hl 0 rfl) ?_
        refine lv_lmul hx hb dX1_odds_149 ?_
        refine lv_lload hx hb dX1_odds_150 (lv_at hl 1 rfl) ?_
        obtain ⟨_, en152, hf⟩ := obd hf
        refine lv_ldiv hx hb dX1_odds_152 (dnzL_e en152).2 ?_
        refine lv_l2i (v := (((10000 : Int64) * e59) / e36).toInt32) hx hb dX1_odds_153 rfl ?_
        refine W.widen (k := 1) (n := 6) (Nat.le_of_ble_eq_true rfl) (Nat.le_of_ble_eq_true rfl) ?_
        exact hret H locs 154 ls _ _ hI (Option.some.inj hf).symm dX1_odds_154
  have hJ24 : ∀ (τ : Cs) (H : Heap) (locs : List Loc) (ls : Array Slot), X1_odds_J24 τ a1 a2 = some out → IC D J o Ld s H locs τ → lv_has ls 11 [(0, .ref o), (1, .int a1), (2, .int a2)] → W p l e ({ frames := 11, cells := 1, slots := 6, locals := 320 } : Room) s m args below meth c H locs 0 0 Q (F0 m 24 ls []) := by
    intro τ  H locs ls hf hI hl
    unfold X1_odds_J24 at hf
    refine lv_iconst (v := (0 : Int32)) hx hb dX1_odds_24 (by decide) ?_
    exact hJ25 τ (0 : Int32) H locs ls hf hI  (lv_sub hl [0, 1, 2] rfl)
  refine lv_iload_n hx hb dX1_odds_0 rfl (lv_at hl 1 rfl) ?_
  refine lv_iconst (v := (0 : Int32)) hx hb dX1_odds_1 (by decide) ?_
  refine lv_bipush (v := (6 : Int32)) hx hb dX1_odds_2 (by decide) ?_
  obtain ⟨x4, ex4, hf⟩ := obd hf
  refine tcallS (rest := []) hx hb hts hown hml hl.1 (mX1_in a1 (0 : Int32) (6 : Int32) _ ex4) (csX1_in_X1 hts ⟨Nat.le_of_ble_eq_true rfl, Nat.le_of_ble_eq_true rfl⟩) ⟨Nat.le_of_ble_eq_true rfl, Nat.le_of_ble_eq_true rfl⟩ rfl rfl (lv_room (Nat.le_of_ble_eq_true rfl)) dX1_odds_4 ?_
  refine lv_if_eq (tgt := 24) hx hb dX1_odds_7 (by decide) (fun hc => ?_) (fun hc => ?_)
  · replace hf := ipos hc hf
    exact hJ24 τ H locs ls hf hI  (lv_sub hl [0, 1, 2] rfl)
  · replace hf := ineg hc hf
    refine lv_iload_n hx hb dX1_odds_10 rfl (lv_at hl 2 rfl) ?_
    refine lv_iconst (v := (0 : Int32)) hx hb dX1_odds_11 (by decide) ?_
    refine lv_bipush (v := (6 : Int32)) hx hb dX1_odds_12 (by decide) ?_
    obtain ⟨x14, ex14, hf⟩ := obd hf
    refine tcallS (rest := []) hx hb hts hown hml hl.1 (mX1_in a2 (0 : Int32) (6 : Int32) _ ex14) (csX1_in_X1 hts ⟨Nat.le_of_ble_eq_true rfl, Nat.le_of_ble_eq_true rfl⟩) ⟨Nat.le_of_ble_eq_true rfl, Nat.le_of_ble_eq_true rfl⟩ rfl rfl (lv_room (Nat.le_of_ble_eq_true rfl)) dX1_odds_14 ?_
    refine lv_if_eq (tgt := 24) hx hb dX1_odds_17 (by decide) (fun hc => ?_) (fun hc => ?_)
    · replace hf := ipos hc hf
      exact hJ24 τ H locs ls hf hI  (lv_sub hl [0, 1, 2] rfl)
    · replace hf := ineg hc hf
      refine lv_iconst (v := (1 : Int32)) hx hb dX1_odds_20 (by decide) ?_
      refine lv_goto (tgt := 25) hx hb dX1_odds_21 (by decide) ?_
      exact hJ25 τ (1 : Int32) H locs ls hf hI  (lv_sub hl [0, 1, 2] rfl)

def X1_early (Λ : Nat → Nat → (Nat → Int32) → Int32) (τ : Cs) (a1 : Int32) : Option Xo :=
  (X1_deedAt τ a1).bind fun x2 =>
  Sum.elim (fun (v2 : Int32 × Cs) =>
    (ld 8 (cw v2.2 0 26) a1).bind fun x13 =>
    if x13 = (0 : Int32) then
      (X1_whenOf Λ v2.2 a1 (0 : Int32)).bind fun x22 =>
      (X1_whenOf Λ x22.2 a1 (1 : Int32)).bind fun x29 =>
      if x22.1 = (-1 : Int32) then
        some (.inl ((0 : Int32), x29.2))
      else
        if x29.1 = (-1 : Int32) then
          some (.inl ((0 : Int32), x29.2))
        else
          some (.inl ((x22.1 - x29.1), x29.2))
    else
      some (.inl ((0 : Int32), v2.2))) (fun (u : Nat × Cs) => some (.inr u)) x2
set_option maxHeartbeats 4000000 in
theorem mX1_early (Λ : Nat → Nat → (Nat → Int32) → Int32) (Λn : Nat → Int32) (τ : Cs) (a1 : Int32) (out : Xo) (hf : X1_early Λ τ a1 = some out) : CXi yX1_early cX1_early 4 (some .int) 65 3116 1 6 Λ Λn (fun o aK aF => [.ref o, .int a1]) out τ := by
  refine CXi.of (by decide) (fun _ _ _ => Nat.le_of_ble_eq_true rfl) ?_
  intro p l e s m args below meth c D J o z aK aV G Ld aF Q ls hst hx hb hml hown hts hE hT hret hxx hthr hI hl
  obtain ⟨H, eH⟩ : ∃ H, H = s.heap := ⟨_, rfl⟩
  obtain ⟨locs, eL⟩ : ∃ L : List Loc, L = [] := ⟨_, rfl⟩
  rw [← eH, ← eL] at hI ⊢
  have hown : s.vm.findClass RX1 = some m.cls := hown
  have hl : lv_has ls 4 [(0, .ref o), (1, .int a1)] := hl
  unfold X1_early at hf
  refine lv_aload_n hx hb dX1_early_0 rfl (lv_at hl 0 rfl) ?_
  refine lv_iload_n hx hb dX1_early_1 rfl (lv_at hl 1 rfl) ?_
  obtain ⟨x2, ex2, hf⟩ := obd hf
  refine xcallV (rest := []) hx hb hts hst hown hE hT hI hml hl.1 (mX1_deedAt Λ Λn τ a1 _ ex2) (cwX1_deedAt_X1 hts ⟨Nat.le_of_ble_eq_true rfl, Nat.le_of_ble_eq_true rfl⟩) (hI.1.o 0 rfl) rfl rfl ⟨Nat.le_of_ble_eq_true rfl, Nat.le_of_ble_eq_true rfl⟩ rfl rfl (lv_room (Nat.le_of_ble_eq_true rfl)) dX1_early_2 (fun E ce q9 n σ' H locs ho hn hI h1 h2 h3 => by subst ho; have hf := selR hf; exact hxx H locs 2 ls _ _ _ E ce q9 n σ' hI (Option.some.inj hf).symm hn h1 h2 h3 (Nat.le_of_ble_eq_true rfl) (Nat.le_of_ble_eq_true rfl)) (fun v2 H locs ho hI => ?_)
  subst ho
  replace hf := selL hf
  refine lv_aload_n hx hb dX1_early_5 rfl (lv_at hl 0 rfl) ?_
  refine gget hx hb hts in_X1 hown hE.1.1 (hI.1.o 0 rfl) rfl 0 (by decide) q463 rfl dX1_early_6 ?_
  refine ggetN hx hb hts in_X2 hown hE.1.1 (hI.1.w 0 (by decide) 0 rfl) rfl 26 (by decide) (hE.1.2.2.f 33 rfl) rfl dX1_early_9 ?_
  refine lv_iload_n hx hb dX1_early_12 rfl (lv_at hl 1 rfl) ?_
  obtain ⟨x13, ex13, hf⟩ := obd hf
  refine gald hx hb hE.1.1 0 (hI.1.w 0 (by decide) 18 rfl) rfl ex13 dX1_early_13 ?_
  refine lv_if_eq (tgt := 19) hx hb dX1_early_14 (by decide) (fun hc => ?_) (fun hc => ?_)
  · replace hf := ipos hc hf
    refine lv_aload_n hx hb dX1_early_19 rfl (lv_at hl 0 rfl) ?_
    refine lv_iload_n hx hb dX1_early_20 rfl (lv_at hl 1 rfl) ?_
    refine lv_iconst (v := (0 : Int32)) hx hb dX1_early_21 (by decide) ?_
    obtain ⟨x22, ex22, hf⟩ := obd hf
    refine ccallI (rest := []) hx hb hts hown hE hI hml hl.1 (mX1_whenOf Λ Λn v2.2 a1 (0 : Int32) _ _ ex22) (cwX1_whenOf_X1 hts ⟨Nat.le_of_ble_eq_true rfl, Nat.le_of_ble_eq_true rfl⟩) (hI.1.o 0 rfl) rfl rfl ⟨Nat.le_of_ble_eq_true rfl, Nat.le_of_ble_eq_true rfl⟩ rfl rfl (lv_room (Nat.le_of_ble_eq_true rfl)) dX1_early_22 (fun H locs hI => ?_)
    refine lv_istore_n (lv' := [(2, .int x22.1), (0, .ref o), (1, .int a1)]) hx hb dX1_early_25 rfl hl (by decide) rfl (fun ls hl => ?_)
    refine lv_aload_n hx hb dX1_early_26 rfl (lv_at hl 1 rfl) ?_
    refine lv_iload_n hx hb dX1_early_27 rfl (lv_at hl 2 rfl) ?_
    refine lv_iconst (v := (1 : Int32)) hx hb dX1_early_28 (by decide) ?_
    obtain ⟨x29, ex29, hf⟩ := obd hf
    refine ccallI (rest := []) hx hb hts hown hE hI hml hl.1 (mX1_whenOf Λ Λn x22.2 a1 (1 : Int32) _ _ ex29) (cwX1_whenOf_X1 hts ⟨Nat.le_of_ble_eq_true rfl, Nat.le_of_ble_eq_true rfl⟩) (hI.1.o 0 rfl) rfl rfl ⟨Nat.le_of_ble_eq_true rfl, Nat.le_of_ble_eq_true rfl⟩ rfl rfl (lv_room (Nat.le_of_ble_eq_true rfl)) dX1_early_29 (fun H locs hI => ?_)
    refine lv_istore_n (lv' := [(3, .int x29.1), (2, .int x22.1), (0, .ref o), (1, .int a1)]) hx hb dX1_early_32 rfl hl (by decide) rfl (fun ls hl => ?_)
    refine lv_iload_n hx hb dX1_early_33 rfl (lv_at hl 1 rfl) ?_
    refine lv_iconst (v := (-1 : Int32)) hx hb dX1_early_34 (by decide) ?_
    refine lv_icmp_eq (tgt := 43) hx hb dX1_early_35 (by decide) (fun hc => ?_) (fun hc => ?_)
    · replace hf := ipos hc hf
      refine lv_iconst (v := (0 : Int32)) hx hb dX1_early_43 (by decide) ?_
      refine lv_goto (tgt := 50) hx hb dX1_early_44 (by decide) ?_
      exact hret H locs 50 ls _ _ hI (Option.some.inj hf).symm dX1_early_50
    · replace hf := ineg hc hf
      refine lv_iload_n hx hb dX1_early_38 rfl (lv_at hl 0 rfl) ?_
      refine lv_iconst (v := (-1 : Int32)) hx hb dX1_early_39 (by decide) ?_
      refine lv_icmp_ne (tgt := 47) hx hb dX1_early_40 (by decide) (fun hc => ?_) (fun hc => ?_)
      · replace hf := ineg hc hf
        refine lv_iload_n hx hb dX1_early_47 rfl (lv_at hl 1 rfl) ?_
        refine lv_iload_n hx hb dX1_early_48 rfl (lv_at hl 0 rfl) ?_
        refine lv_isub hx hb dX1_early_49 ?_
        exact hret H locs 50 ls _ _ hI (Option.some.inj hf).symm dX1_early_50
      · replace hf := ipos hc hf
        refine lv_iconst (v := (0 : Int32)) hx hb dX1_early_43 (by decide) ?_
        refine lv_goto (tgt := 50) hx hb dX1_early_44 (by decide) ?_
        exact hret H locs 50 ls _ _ hI (Option.some.inj hf).symm dX1_early_50
  · replace hf := ineg hc hf
    refine lv_iconst (v := (0 : Int32)) hx hb dX1_early_17 (by decide) ?_
    exact hret H locs 18 ls _ _ hI (Option.some.inj hf).symm dX1_early_18

def X1_ahead (Λ : Nat → Nat → (Nat → Int32) → Int32) (τ : Cs) (a1 : Int32) (a2 : Int32) (a3 : Int32) : Option Xo :=
  (X1_deedAt τ a1).bind fun x2 =>
  Sum.elim (fun (v2 : Int32 × Cs) =>
    (X1_aheadBy a2).bind fun x6 =>
    Option.elim x6 (
    (X1_question a3 (2 : Int32)).bind fun x11 =>
    Option.elim x11 (
    (X1_worldAt Λ v2.2 a2).bind fun t16 =>
    if a3 = (0 : Int32) then
      (ld 8 (cw t16 3 24) a1).bind fun x31 =>
      some (.inl (x31, t16))
    else
      if a3 = (1 : Int32) then
        (ld 8 (cw t16 3 26) a1).bind fun x46 =>
        some (.inl (x46, t16))
      else
        (ld 8 (cw t16 3 15) a1).bind fun x56 =>
        if x56 = (0 : Int32) then
          some (.inl ((0 : Int32), t16))
        else
          some (.inl ((1 : Int32), t16))) fun n => some (.inr (n, v2.2))) fun n => some (.inr (n, v2.2))) (fun (u : Nat × Cs) => some (.inr u)) x2
set_option maxHeartbeats 4000000 in
theorem mX1_ahead (Λ : Nat → Nat → (Nat → Int32) → Int32) (Λn : Nat → Int32) (τ : Cs) (a1 : Int32) (a2 : Int32) (a3 : Int32) (out : Xo) (hf : X1_ahead Λ τ a1 a2 a3 = some out) : CXi yX1_ahead cX1_ahead 5 (some .int) 65 3115 2 12 Λ Λn (fun o aK aF => [.ref o, .int a1, .int a2, .int a3]) out τ := by
  refine CXi.of (by decide) (fun _ _ _ => Nat.le_of_ble_eq_true rfl) ?_
  intro p l e s m args below meth c D J o z aK aV G Ld aF Q ls hst hx hb hml hown hts hE hT hret hxx hthr hI hl
  obtain ⟨H, eH⟩ : ∃ H, H = s.heap := ⟨_, rfl⟩
  obtain ⟨locs, eL⟩ : ∃ L : List Loc, L = [] := ⟨_, rfl⟩
  rw [← eH, ← eL] at hI ⊢
  have hown : s.vm.findClass RX1 = some m.cls := hown
  have hl : lv_has ls 5 [(0, .ref o), (1, .int a1), (2, .int a2), (3, .int a3)] := hl
  unfold X1_ahead at hf
  refine lv_aload_n hx hb dX1_ahead_0 rfl (lv_at hl 0 rfl) ?_
  refine lv_iload_n hx hb dX1_ahead_1 rfl (lv_at hl 1 rfl) ?_
  obtain ⟨x2, ex2, hf⟩ := obd hf
  refine xcallV (rest := []) hx hb hts hst hown hE hT hI hml hl.1 (mX1_deedAt Λ Λn τ a1 _ ex2) (cwX1_deedAt_X1 hts ⟨Nat.le_of_ble_eq_true rfl, Nat.le_of_ble_eq_true rfl⟩) (hI.1.o 0 rfl) rfl rfl ⟨Nat.le_of_ble_eq_true rfl, Nat.le_of_ble_eq_true rfl⟩ rfl rfl (lv_room (Nat.le_of_ble_eq_true rfl)) dX1_ahead_2 (fun E ce q9 n σ' H locs ho hn hI h1 h2 h3 => by subst ho; have hf := selR hf; exact hxx H locs 2 ls _ _ _ E ce q9 n σ' hI (Option.some.inj hf).symm hn h1 h2 h3 (Nat.le_of_ble_eq_true rfl) (Nat.le_of_ble_eq_true rfl)) (fun v2 H locs ho hI => ?_)
  subst ho
  replace hf := selL hf
  refine lv_iload_n hx hb dX1_ahead_5 rfl (lv_at hl 2 rfl) ?_
  obtain ⟨x6, ex6, hf⟩ := obd hf
  rcases x6 with _ | nx6
  rotate_left
  · replace hf := oelS hf
    exact xcallS (rest := []) hx hb hts hst hown hE hT hI hml hl.1 (mX1_aheadBy a2 _ ex6) (csX1_aheadBy_X1 hts ⟨Nat.le_of_ble_eq_true rfl, Nat.le_of_ble_eq_true rfl⟩) ⟨Nat.le_of_ble_eq_true rfl, Nat.le_of_ble_eq_true rfl⟩ rfl rfl (lv_room (Nat.le_of_ble_eq_true rfl)) dX1_ahead_6 (fun E ce q9 n H locs ho hn hI h1 h2 h3 => by cases ho; exact hxx H locs 6 ls _ _ _ E ce q9 _ _ hI (Option.some.inj hf).symm hn h1 h2 h3 (Nat.le_of_ble_eq_true rfl) (Nat.le_of_ble_eq_true rfl)) (fun ho => by cases ho)
  replace hf := oelN hf
  refine tcallSv (rest := []) hx hb hts hown hml hl.1 (nX1_aheadBy a2 ex6) (dsX1_aheadBy_X1 hts ⟨Nat.le_of_ble_eq_true rfl, Nat.le_of_ble_eq_true rfl⟩) ⟨Nat.le_of_ble_eq_true rfl, Nat.le_of_ble_eq_true rfl⟩ rfl rfl (lv_room (Nat.le_of_ble_eq_true rfl)) dX1_ahead_6 ?_
  refine lv_iload_n hx hb dX1_ahead_9 rfl (lv_at hl 3 rfl) ?_
  refine lv_iconst (v := (2 : Int32)) hx hb dX1_ahead_10 (by decide) ?_
  obtain ⟨x11, ex11, hf⟩ := obd hf
  rcases x11 with _ | nx11
  rotate_left
  · replace hf := oelS hf
    exact xcallS (rest := []) hx hb hts hst hown hE hT hI hml hl.1 (mX1_question a3 (2 : Int32) _ ex11) (csX1_question_X1 hts ⟨Nat.le_of_ble_eq_true rfl, Nat.le_of_ble_eq_true rfl⟩) ⟨Nat.le_of_ble_eq_true rfl, Nat.le_of_ble_eq_true rfl⟩ rfl rfl (lv_room (Nat.le_of_ble_eq_true rfl)) dX1_ahead_11 (fun E ce q9 n H locs ho hn hI h1 h2 h3 => by cases ho; exact hxx H locs 11 ls _ _ _ E ce q9 _ _ hI (Option.some.inj hf).symm hn h1 h2 h3 (Nat.le_of_ble_eq_true rfl) (Nat.le_of_ble_eq_true rfl)) (fun ho => by cases ho)
  replace hf := oelN hf
  refine tcallSv (rest := []) hx hb hts hown hml hl.1 (nX1_question a3 (2 : Int32) ex11) (dsX1_question_X1 hts ⟨Nat.le_of_ble_eq_true rfl, Nat.le_of_ble_eq_true rfl⟩) ⟨Nat.le_of_ble_eq_true rfl, Nat.le_of_ble_eq_true rfl⟩ rfl rfl (lv_room (Nat.le_of_ble_eq_true rfl)) dX1_ahead_11 ?_
  refine lv_aload_n hx hb dX1_ahead_14 rfl (lv_at hl 0 rfl) ?_
  refine lv_iload_n hx hb dX1_ahead_15 rfl (lv_at hl 2 rfl) ?_
  obtain ⟨t16, et16, hf⟩ := obd hf
  refine ccallR (rest := []) hx hb hts hown hE hI hml hl.1 (mX1_worldAt Λ Λn v2.2 a2 _ et16) (cwX1_worldAt_X1 hts ⟨Nat.le_of_ble_eq_true rfl, Nat.le_of_ble_eq_true rfl⟩) (hI.1.o 0 rfl) rfl rfl ⟨Nat.le_of_ble_eq_true rfl, Nat.le_of_ble_eq_true rfl⟩ rfl rfl (lv_room (Nat.le_of_ble_eq_true rfl)) dX1_ahead_16 (fun H locs hI => ?_)
  refine lv_astore (lv' := [(4, .ref (wA o 3)), (0, .ref o), (1, .int a1), (2, .int a2), (3, .int a3)]) hx hb dX1_ahead_19 hl (by decide) rfl (fun ls hl => ?_)
  refine lv_iload_n hx hb dX1_ahead_21 rfl (lv_at hl 4 rfl) ?_
  refine lv_if_ne (tgt := 35) hx hb dX1_ahead_22 (by decide) (fun hc => ?_) (fun hc => ?_)
  · replace hf := ineg hc hf
    refine lv_iload_n hx hb dX1_ahead_35 rfl (lv_at hl 4 rfl) ?_
    refine lv_iconst (v := (1 : Int32)) hx hb dX1_ahead_36 (by decide) ?_
    refine lv_icmp_ne (tgt := 50) hx hb dX1_ahead_37 (by decide) (fun hc => ?_) (fun hc => ?_)
    · replace hf := ineg hc hf
      refine lv_aload hx hb dX1_ahead_50 (lv_at hl 0 rfl) ?_
      refine ggetN hx hb hts in_X2 hown hE.1.1 (hI.1.w 3 (by decide) 0 rfl) rfl 15 (by decide) (hE.1.2.2.f 19 rfl) rfl dX1_ahead_52 ?_
      refine lv_iload_n hx hb dX1_ahead_55 rfl (lv_at hl 2 rfl) ?_
      obtain ⟨x56, ex56, hf⟩ := obd hf
      refine gzld hx hb hE.1.1 1 (hI.1.w 3 (by decide) 7 rfl) rfl ex56 dX1_ahead_56 ?_
      refine lv_if_eq (tgt := 64) hx hb dX1_ahead_57 (by decide) (fun hc => ?_) (fun hc => ?_)
      · replace hf := ipos hc hf
        refine lv_iconst (v := (0 : Int32)) hx hb dX1_ahead_64 (by decide) ?_
        refine W.widen (k := 2) (n := 12) (Nat.le_of_ble_eq_true rfl) (Nat.le_of_ble_eq_true rfl) ?_
        exact hret H locs 65 ls _ _ hI (Option.some.inj hf).symm dX1_ahead_65
      · replace hf := ineg hc hf
        refine lv_iconst (v := (1 : Int32)) hx hb dX1_ahead_60 (by decide) ?_
        refine lv_goto (tgt := 65) hx hb dX1_ahead_61 (by decide) ?_
        refine W.widen (k := 2) (n := 12) (Nat.le_of_ble_eq_true rfl) (Nat.le_of_ble_eq_true rfl) ?_
        exact hret H locs 65 ls _ _ hI (Option.some.inj hf).symm dX1_ahead_65
    · replace hf := ipos hc hf
      refine lv_aload hx hb dX1_ahead_40 (lv_at hl 0 rfl) ?_
      refine ggetN hx hb hts in_X2 hown hE.1.1 (hI.1.w 3 (by decide) 0 rfl) rfl 26 (by decide) (hE.1.2.2.f 33 rfl) rfl dX1_ahead_42 ?_
      refine lv_iload_n hx hb dX1_ahead_45 rfl (lv_at hl 2 rfl) ?_
      obtain ⟨x46, ex46, hf⟩ := obd hf
      refine gald hx hb hE.1.1 0 (hI.1.w 3 (by decide) 18 rfl) rfl ex46 dX1_ahead_46 ?_
      refine lv_goto (tgt := 65) hx hb dX1_ahead_47 (by decide) ?_
      refine W.widen (k := 2) (n := 12) (Nat.le_of_ble_eq_true rfl) (Nat.le_of_ble_eq_true rfl) ?_
      exact hret H locs 65 ls _ _ hI (Option.some.inj hf).symm dX1_ahead_65
  · replace hf := ipos hc hf
    refine lv_aload hx hb dX1_ahead_25 (lv_at hl 0 rfl) ?_
    refine ggetN hx hb hts in_X2 hown hE.1.1 (hI.1.w 3 (by decide) 0 rfl) rfl 24 (by decide) (hE.1.2.2.f 31 rfl) rfl dX1_ahead_27 ?_
    refine lv_iload_n hx hb dX1_ahead_30 rfl (lv_at hl 2 rfl) ?_
    obtain ⟨x31, ex31, hf⟩ := obd hf
    refine gald hx hb hE.1.1 0 (hI.1.w 3 (by decide) 16 rfl) rfl ex31 dX1_ahead_31 ?_
    refine lv_goto (tgt := 65) hx hb dX1_ahead_32 (by decide) ?_
    refine W.widen (k := 2) (n := 12) (Nat.le_of_ble_eq_true rfl) (Nat.le_of_ble_eq_true rfl) ?_
    exact hret H locs 65 ls _ _ hI (Option.some.inj hf).symm dX1_ahead_65

theorem cwX1_tries_X1 {R : Room} {s : State} {args : Array Value} {fr lo : Nat} (hts : ∀ w ∈ lw_all, w.before args s = true) (hR : fr + 1 ≤ R.frames ∧ 8 + (3 + 11) + lo ≤ R.locals) : CallW R s args RX1 RX1 649 yX1_tries cX1_tries 3 (none) (ws_ yX1_tries cX1_tries 3 (none)) ({ frames := fr, cells := 0, slots := 0, locals := lo }) 0 0 1 :=
  cwV 1 hts (lw_V q2058 q2060 qs58 q133 q2061) rfl rfl rfl (by decide +kernel) hR
def X1_trial (Λ : Nat → Nat → (Nat → Int32) → Int32) (τ : Cs) (a1 : Int32) (a2 : Int32) : Option Xo :=
  (X1_in a1 (0 : Int32) (80 : Int32)).bind fun x4 =>
  (X1_demand x4).bind fun x7 =>
  Option.elim x7 (
  (clk τ 4 0).bind fun t18 =>
  (X1_tries Λ t18 a1).bind fun t24 =>
  if a2 = (0 : Int32) then
    (X2_of (cw t24 4) (1 : Int32)).bind fun x46 =>
    some (.inl (x46, t24))
  else
    (X2_brokeOnes (cw t24 4)).bind fun x35 =>
    some (.inl (x35, t24))) fun n => some (.inr (n, τ))
set_option maxHeartbeats 4000000 in
theorem mX1_trial (Λ : Nat → Nat → (Nat → Int32) → Int32) (Λn : Nat → Int32) (τ : Cs) (a1 : Int32) (a2 : Int32) (out : Xo) (hf : X1_trial Λ τ a1 a2 = some out) : CXi yX1_trial cX1_trial 3 (some .int) 66 3136 1 6 Λ Λn (fun o aK aF => [.ref o, .int a1, .int a2]) out τ := by
  refine CXi.of (by decide) (fun _ _ _ => Nat.le_of_ble_eq_true rfl) ?_
  intro p l e s m args below meth c D J o z aK aV G Ld aF Q ls hst hx hb hml hown hts hE hT hret hxx hthr hI hl
  obtain ⟨H, eH⟩ : ∃ H, H = s.heap := ⟨_, rfl⟩
  obtain ⟨locs, eL⟩ : ∃ L : List Loc, L = [] := ⟨_, rfl⟩
  rw [← eH, ← eL] at hI ⊢
  have hown : s.vm.findClass RX1 = some m.cls := hown
  have hl : lv_has ls 3 [(0, .ref o), (1, .int a1), (2, .int a2)] := hl
  unfold X1_trial at hf
  refine lv_iload_n hx hb dX1_trial_0 rfl (lv_at hl 1 rfl) ?_
  refine lv_iconst (v := (0 : Int32)) hx hb dX1_trial_1 (by decide) ?_
  refine lv_bipush (v := (80 : Int32)) hx hb dX1_trial_2 (by decide) ?_
  obtain ⟨x4, ex4, hf⟩ := obd hf
  refine tcallS (rest := []) hx hb hts hown hml hl.1 (mX1_in a1 (0 : Int32) (80 : Int32) _ ex4) (csX1_in_X1 hts ⟨Nat.le_of_ble_eq_true rfl, Nat.le_of_ble_eq_true rfl⟩) ⟨Nat.le_of_ble_eq_true rfl, Nat.le_of_ble_eq_true rfl⟩ rfl rfl (lv_room (Nat.le_of_ble_eq_true rfl)) dX1_trial_4 ?_
  obtain ⟨x7, ex7, hf⟩ := obd hf
  rcases x7 with _ | nx7
  rotate_left
  · replace hf := oelS hf
    exact xcallS (rest := []) hx hb hts hst hown hE hT hI hml hl.1 (mX1_demand x4 _ ex7) (csX1_demand_X1 hts ⟨Nat.le_of_ble_eq_true rfl, Nat.le_of_ble_eq_true rfl⟩) ⟨Nat.le_of_ble_eq_true rfl, Nat.le_of_ble_eq_true rfl⟩ rfl rfl (lv_room (Nat.le_of_ble_eq_true rfl)) dX1_trial_7 (fun E ce q9 n H locs ho hn hI h1 h2 h3 => by cases ho; exact hxx H locs 7 ls _ _ _ E ce q9 _ _ hI (Option.some.inj hf).symm hn h1 h2 h3 (Nat.le_of_ble_eq_true rfl) (Nat.le_of_ble_eq_true rfl)) (fun ho => by cases ho)
  replace hf := oelN hf
  refine tcallSv (rest := []) hx hb hts hown hml hl.1 (nX1_demand x4 ex7) (dsX1_demand_X1 hts ⟨Nat.le_of_ble_eq_true rfl, Nat.le_of_ble_eq_true rfl⟩) ⟨Nat.le_of_ble_eq_true rfl, Nat.le_of_ble_eq_true rfl⟩ rfl rfl (lv_room (Nat.le_of_ble_eq_true rfl)) dX1_trial_7 ?_
  refine lv_aload_n hx hb dX1_trial_10 rfl (lv_at hl 0 rfl) ?_
  refine gget hx hb hts in_X1 hown hE.1.1 (hI.1.o 0 rfl) rfl 12 (by decide) q478 rfl dX1_trial_11 ?_
  refine lv_aload_n hx hb dX1_trial_14 rfl (lv_at hl 0 rfl) ?_
  refine gget hx hb hts in_X1 hown hE.1.1 (hI.1.o 0 rfl) rfl 0 (by decide) q463 rfl dX1_trial_15 ?_
  obtain ⟨t18, et18, hf⟩ := obd hf
  refine clikens (rest := []) hx hb hts hown hE hI hml hl.1 (by decide) (by decide) (by decide) et18 ⟨Nat.le_of_ble_eq_true rfl, Nat.le_of_ble_eq_true rfl⟩ ⟨Nat.le_of_ble_eq_true rfl, Nat.le_of_ble_eq_true rfl⟩ (lv_room (Nat.le_of_ble_eq_true rfl)) dX1_trial_18 (fun H locs hI => ?_)
  refine lv_pop hx hb dX1_trial_21 rfl ?_
  refine lv_aload_n hx hb dX1_trial_22 rfl (lv_at hl 0 rfl) ?_
  refine lv_iload_n hx hb dX1_trial_23 rfl (lv_at hl 1 rfl) ?_
  obtain ⟨t24, et24, hf⟩ := obd hf
  refine ccallV (rest := []) hx hb hts hown hE hI hml hl.1 (mX1_tries Λ Λn t18 a1 _ et24) (cwX1_tries_X1 hts ⟨Nat.le_of_ble_eq_true rfl, Nat.le_of_ble_eq_true rfl⟩) (hI.1.o 0 rfl) rfl rfl ⟨Nat.le_of_ble_eq_true rfl, Nat.le_of_ble_eq_true rfl⟩ rfl rfl (lv_room (Nat.le_of_ble_eq_true rfl)) dX1_trial_24 (fun H locs hI => ?_)
  refine lv_iload_n hx hb dX1_trial_27 rfl (lv_at hl 2 rfl) ?_
  refine lv_if_eq (tgt := 41) hx hb dX1_trial_28 (by decide) (fun hc => ?_) (fun hc => ?_)
  · replace hf := ipos hc hf
    refine lv_aload_n hx hb dX1_trial_41 rfl (lv_at hl 0 rfl) ?_
    refine gget hx hb hts in_X1 hown hE.1.1 (hI.1.o 0 rfl) rfl 12 (by decide) q478 rfl dX1_trial_42 ?_
    refine lv_iconst (v := (1 : Int32)) hx hb dX1_trial_45 (by decide) ?_
    obtain ⟨x46, ex46, hf⟩ := obd hf
    refine cworldI (rest := []) hx hb hts hown hE hI hml hl.1 (mX2_of (cw t24 4) (1 : Int32) _ ex46) (by decide) (cwX2_of_X1 hts ⟨Nat.le_of_ble_eq_true rfl, Nat.le_of_ble_eq_true rfl⟩) (congrArg some (cwu_self t24 4)) ⟨Nat.le_of_ble_eq_true rfl, Nat.le_of_ble_eq_true rfl⟩ rfl rfl (lv_room (Nat.le_of_ble_eq_true rfl)) dX1_trial_46 (fun H locs hI => ?_)
    refine W.widen (k := 1) (n := 6) (Nat.le_of_ble_eq_true rfl) (Nat.le_of_ble_eq_true rfl) ?_
    exact hret H locs 49 ls _ _ hI (Option.some.inj hf).symm dX1_trial_49
  · replace hf := ineg hc hf
    refine lv_aload_n hx hb dX1_trial_31 rfl (lv_at hl 0 rfl) ?_
    refine gget hx hb hts in_X1 hown hE.1.1 (hI.1.o 0 rfl) rfl 12 (by decide) q478 rfl dX1_trial_32 ?_
    obtain ⟨x35, ex35, hf⟩ := obd hf
    refine cworldI (rest := []) hx hb hts hown hE hI hml hl.1 (mX2_brokeOnes (cw t24 4) _ ex35) (by decide) (cwX2_brokeOnes_X1 hts ⟨Nat.le_of_ble_eq_true rfl, Nat.le_of_ble_eq_true rfl⟩) (congrArg some (cwu_self t24 4)) ⟨Nat.le_of_ble_eq_true rfl, Nat.le_of_ble_eq_true rfl⟩ rfl rfl (lv_room (Nat.le_of_ble_eq_true rfl)) dX1_trial_35 (fun H locs hI => ?_)
    refine lv_goto (tgt := 49) hx hb dX1_trial_38 (by decide) ?_
    refine W.widen (k := 1) (n := 6) (Nat.le_of_ble_eq_true rfl) (Nat.le_of_ble_eq_true rfl) ?_
    exact hret H locs 49 ls _ _ hI (Option.some.inj hf).symm dX1_trial_49

def X1_span_L15 (Λ : Nat → Nat → (Nat → Int32) → Int32) (c1 : Int32) (c2 : Int32) (w15 : Cs × Int32 × Int32) : Option ((Cs × Int32 × Int32) ⊕ (Cs × Int32)) :=
  if (6 : Int32) < w15.2.2 then
    some (.inr (w15.1, w15.2.1))
  else
    (clk w15.1 4 0).bind fun t30 =>
    (some (cwu t30 4 (mup (cw t30 4) 0 8 w15.2.2))).bind fun t40 =>
    (X1_tries Λ t40 c1).bind fun t45 =>
    (X2_paidOnes (cw t45 4)).bind fun x52 =>
    (J16_bitCount x52).bind fun x55 =>
    if w15.2.1 = (-1 : Int32) then
      (some (w15.2.2 + (1 : Int32))).bind fun v90_13 =>
      some (.inl (t45, x55, v90_13))
    else
      if c2 = (0 : Int32) then
        (some (if x55 < w15.2.1 then x55 else w15.2.1)).bind fun v89 =>
        (some (w15.2.2 + (1 : Int32))).bind fun v90 =>
        some (.inl (t45, v89, v90))
      else
        (some (if w15.2.1 < x55 then x55 else w15.2.1)).bind fun v89_11 =>
        (some (w15.2.2 + (1 : Int32))).bind fun v90_12 =>
        some (.inl (t45, v89_11, v90_12))
def X1_span (Λ : Nat → Nat → (Nat → Int32) → Int32) (τ : Cs) (a1 : Int32) (a2 : Int32) : Option Xo :=
  (X1_in a1 (0 : Int32) (80 : Int32)).bind fun x4 =>
  (X1_demand x4).bind fun x7 =>
  Option.elim x7 (
  (loopO (X1_span_L15 Λ a1 a2) FU (τ, (-1 : Int32), (1 : Int32))).bind fun e15 =>
  some (.inl (e15.2, e15.1))) fun n => some (.inr (n, τ))
set_option maxHeartbeats 4000000 in
theorem mX1_span (Λ : Nat → Nat → (Nat → Int32) → Int32) (Λn : Nat → Int32) (τ : Cs) (a1 : Int32) (a2 : Int32) (out : Xo) (hf : X1_span Λ τ a1 a2 = some out) : CXi yX1_span cX1_span 6 (some .int) 66 3136 1 6 Λ Λn (fun o aK aF => [.ref o, .int a1, .int a2]) out τ := by
  refine CXi.of (by decide) (fun _ _ _ => Nat.le_of_ble_eq_true rfl) ?_
  intro p l e s m args below meth c D J o z aK aV G Ld aF Q ls hst hx hb hml hown hts hE hT hret hxx hthr hI hl
  obtain ⟨H, eH⟩ : ∃ H, H = s.heap := ⟨_, rfl⟩
  obtain ⟨locs, eL⟩ : ∃ L : List Loc, L = [] := ⟨_, rfl⟩
  rw [← eH, ← eL] at hI ⊢
  have hown : s.vm.findClass RX1 = some m.cls := hown
  have hl : lv_has ls 6 [(0, .ref o), (1, .int a1), (2, .int a2)] := hl
  unfold X1_span at hf
  refine lv_iload_n hx hb dX1_span_0 rfl (lv_at hl 1 rfl) ?_
  refine lv_iconst (v := (0 : Int32)) hx hb dX1_span_1 (by decide) ?_
  refine lv_bipush (v := (80 : Int32)) hx hb dX1_span_2 (by decide) ?_
  obtain ⟨x4, ex4, hf⟩ := obd hf
  refine tcallS (rest := []) hx hb hts hown hml hl.1 (mX1_in a1 (0 : Int32) (80 : Int32) _ ex4) (csX1_in_X1 hts ⟨Nat.le_of_ble_eq_true rfl, Nat.le_of_ble_eq_true rfl⟩) ⟨Nat.le_of_ble_eq_true rfl, Nat.le_of_ble_eq_true rfl⟩ rfl rfl (lv_room (Nat.le_of_ble_eq_true rfl)) dX1_span_4 ?_
  obtain ⟨x7, ex7, hf⟩ := obd hf
  rcases x7 with _ | nx7
  rotate_left
  · replace hf := oelS hf
    exact xcallS (rest := []) hx hb hts hst hown hE hT hI hml hl.1 (mX1_demand x4 _ ex7) (csX1_demand_X1 hts ⟨Nat.le_of_ble_eq_true rfl, Nat.le_of_ble_eq_true rfl⟩) ⟨Nat.le_of_ble_eq_true rfl, Nat.le_of_ble_eq_true rfl⟩ rfl rfl (lv_room (Nat.le_of_ble_eq_true rfl)) dX1_span_7 (fun E ce q9 n H locs ho hn hI h1 h2 h3 => by cases ho; exact hxx H locs 7 ls _ _ _ E ce q9 _ _ hI (Option.some.inj hf).symm hn h1 h2 h3 (Nat.le_of_ble_eq_true rfl) (Nat.le_of_ble_eq_true rfl)) (fun ho => by cases ho)
  replace hf := oelN hf
  refine tcallSv (rest := []) hx hb hts hown hml hl.1 (nX1_demand x4 ex7) (dsX1_demand_X1 hts ⟨Nat.le_of_ble_eq_true rfl, Nat.le_of_ble_eq_true rfl⟩) ⟨Nat.le_of_ble_eq_true rfl, Nat.le_of_ble_eq_true rfl⟩ rfl rfl (lv_room (Nat.le_of_ble_eq_true rfl)) dX1_span_7 ?_
  refine lv_iconst (v := (-1 : Int32)) hx hb dX1_span_10 (by decide) ?_
  refine lv_istore_n (lv' := [(3, .int (-1 : Int32)), (0, .ref o), (1, .int a1), (2, .int a2)]) hx hb dX1_span_11 rfl hl (by decide) rfl (fun ls hl => ?_)
  refine lv_iconst (v := (1 : Int32)) hx hb dX1_span_12 (by decide) ?_
  refine lv_istore (lv' := [(4, .int (1 : Int32)), (3, .int (-1 : Int32)), (0, .ref o), (1, .int a1), (2, .int a2)]) hx hb dX1_span_13 hl (by decide) rfl (fun ls hl => ?_)
  obtain ⟨e15, he15, hf⟩ := obd hf
  have hs15 : ∀ (c1 : Int32) (c2 : Int32), ∀ (w15 : Cs × Int32 × Int32) (o15 : (Cs × Int32 × Int32) ⊕ (Cs × Int32)), X1_span_L15 Λ c1 c2 w15 = some o15 → (∀ wx_, o15 = .inl wx_ → ∀ (H : Heap) (locs : List Loc) (ls : Array Slot), IC D J o Ld s H locs wx_.1 → lv_has ls 6 [(0, .ref o), (1, .int c1), (2, .int c2), (3, .int wx_.2.1), (4, .int wx_.2.2)] → W p l e ({ frames := 66, cells := 1, slots := 6, locals := 3136 } : Room) s m args below meth c H locs 0 0 Q (F0 m 15 ls [])) → (∀ ex_, o15 = .inr ex_ → ∀ (H : Heap) (locs : List Loc) (ls : Array Slot), IC D J o Ld s H locs ex_.1 → lv_has ls 6 [(3, .int ex_.2)] → W p l e ({ frames := 66, cells := 1, slots := 6, locals := 3136 } : Room) s m args below meth c H locs 0 0 Q (F0 m 96 ls [])) → ∀ (H : Heap) (locs : List Loc) (ls : Array Slot), IC D J o Ld s H locs w15.1 → lv_has ls 6 [(0, .ref o), (1, .int c1), (2, .int c2), (3, .int w15.2.1), (4, .int w15.2.2)] → W p l e ({ frames := 66, cells := 1, slots := 6, locals := 3136 } : Room) s m args below meth c H locs 0 0 Q (F0 m 15 ls []) := by
    intro c1 c2 w15 o15 hf hk hq H locs ls hI hl
    unfold X1_span_L15 at hf
    refine lv_iload hx hb dX1_span_15 (lv_at hl 4 rfl) ?_
    refine lv_bipush (v := (6 : Int32)) hx hb dX1_span_17 (by decide) ?_
    refine lv_icmp_gt (tgt := 96) hx hb dX1_span_19 (by decide) (fun hc => ?_) (fun hc => ?_)
    · replace hf := ipos hc hf
      exact hq _ (Option.some.inj hf).symm H locs ls hI (lv_sub hl [3] rfl)
    · replace hf := ineg hc hf
      refine lv_aload_n hx hb dX1_span_22 rfl (lv_at hl 0 rfl) ?_
      refine gget hx hb hts in_X1 hown hE.1.1 (hI.1.o 0 rfl) rfl 12 (by decide) q478 rfl dX1_span_23 ?_
      refine lv_aload_n hx hb dX1_span_26 rfl (lv_at hl 0 rfl) ?_
      refine gget hx hb hts in_X1 hown hE.1.1 (hI.1.o 0 rfl) rfl 0 (by decide) q463 rfl dX1_span_27 ?_
      obtain ⟨t30, et30, hf⟩ := obd hf
      refine clikens (rest := []) hx hb hts hown hE hI hml hl.1 (by decide) (by decide) (by decide) et30 ⟨Nat.le_of_ble_eq_true rfl, Nat.le_of_ble_eq_true rfl⟩ ⟨Nat.le_of_ble_eq_true rfl, Nat.le_of_ble_eq_true rfl⟩ (lv_room (Nat.le_of_ble_eq_true rfl)) dX1_span_30 (fun H locs hI => ?_)
      refine lv_pop hx hb dX1_span_33 rfl ?_
      refine lv_aload_n hx hb dX1_span_34 rfl (lv_at hl 0 rfl) ?_
      refine gget hx hb hts in_X1 hown hE.1.1 (hI.1.o 0 rfl) rfl 12 (by decide) q478 rfl dX1_span_35 ?_
      refine lv_iload hx hb dX1_span_38 (lv_at hl 4 rfl) ?_
      obtain ⟨t40, et40, hf⟩ := obd hf
      refine gputN hx hb hts in_X2 tyX2 tyX2_ok nmX2 hown hE.1.1 (hI.1.w 4 (by decide) 0 rfl) rfl 8 (by decide) (hE.1.2.2.f 10 rfl) rfl rfl rfl (Nat.le_of_ble_eq_true rfl) dX1_span_40 (fun H locs h1 h2 h3 h4 => ?_)
      have hI := hI.putW (k := 4) (P := 0) (w' := mup (cw t30 4) 0 8 w15.2.2) (by decide) rfl rfl h1 h2 h3 h4
      rw [Option.some.inj et40] at hI
      refine lv_aload_n hx hb dX1_span_43 rfl (lv_at hl 0 rfl) ?_
      refine lv_iload_n hx hb dX1_span_44 rfl (lv_at hl 1 rfl) ?_
      obtain ⟨t45, et45, hf⟩ := obd hf
      refine ccallV (rest := []) hx hb hts hown hE hI hml hl.1 (mX1_tries Λ Λn t40 c1 _ et45) (cwX1_tries_X1 hts ⟨Nat.le_of_ble_eq_true rfl, Nat.le_of_ble_eq_true rfl⟩) (hI.1.o 0 rfl) rfl rfl ⟨Nat.le_of_ble_eq_true rfl, Nat.le_of_ble_eq_true rfl⟩ rfl rfl (lv_room (Nat.le_of_ble_eq_true rfl)) dX1_span_45 (fun H locs hI => ?_)
      refine lv_aload_n hx hb dX1_span_48 rfl (lv_at hl 0 rfl) ?_
      refine gget hx hb hts in_X1 hown hE.1.1 (hI.1.o 0 rfl) rfl 12 (by decide) q478 rfl dX1_span_49 ?_
      obtain ⟨x52, ex52, hf⟩ := obd hf
      refine cworldI (rest := []) hx hb hts hown hE hI hml hl.1 (mX2_paidOnes (cw t45 4) _ ex52) (by decide) (cwX2_paidOnes_X1 hts ⟨Nat.le_of_ble_eq_true rfl, Nat.le_of_ble_eq_true rfl⟩) (congrArg some (cwu_self t45 4)) ⟨Nat.le_of_ble_eq_true rfl, Nat.le_of_ble_eq_true rfl⟩ rfl rfl (lv_room (Nat.le_of_ble_eq_true rfl)) dX1_span_52 (fun H locs hI => ?_)
      obtain ⟨x55, ex55, hf⟩ := obd hf
      refine tcallS (rest := []) hx hb hts hown hml hl.1 (mJ16_bitCount x52 _ ex55) (csJ16_bitCount_X1 hts ⟨Nat.le_of_ble_eq_true rfl, Nat.le_of_ble_eq_true rfl⟩) ⟨Nat.le_of_ble_eq_true rfl, Nat.le_of_ble_eq_true rfl⟩ rfl rfl (lv_room (Nat.le_of_ble_eq_true rfl)) dX1_span_55 ?_
      refine lv_istore (lv' := [(5, .int x55), (0, .ref o), (1, .int c1), (2, .int c2), (3, .int w15.2.1), (4, .int w15.2.2)]) hx hb dX1_span_58 hl (by decide) rfl (fun ls hl => ?_)
      refine lv_iload_n hx hb dX1_span_60 rfl (lv_at hl 4 rfl) ?_
      refine lv_iconst (v := (-1 : Int32)) hx hb dX1_span_61 (by decide) ?_
      refine lv_icmp_ne (tgt := 70) hx hb dX1_span_62 (by decide) (fun hc => ?_) (fun hc => ?_)
      · replace hf := ineg hc hf
        refine lv_iload_n hx hb dX1_span_70 rfl (lv_at hl 3 rfl) ?_
        refine lv_if_eq (tgt := 83) hx hb dX1_span_71 (by decide) (fun hc => ?_) (fun hc => ?_)
        · replace hf := ipos hc hf
          refine lv_iload_n hx hb dX1_span_83 rfl (lv_at hl 4 rfl) ?_
          refine lv_iload hx hb dX1_span_84 (lv_at hl 0 rfl) ?_
          refine va_mmin hx hb (hml.trans hl.1.symm) hown (hts _ q681) (hts _ q682) (hts _ q150) (hts _ q683) (Nat.le_of_ble_eq_true rfl) (Nat.le_of_ble_eq_true rfl) (Nat.le_of_ble_eq_true rfl) (Nat.le_of_ble_eq_true rfl) dX1_span_86 ?_
          obtain ⟨v89, ev89, hf⟩ := obd hf
          refine nmI ev89 ?_
          refine lv_istore_n (lv' := [(3, .int v89), (5, .int x55), (0, .ref o), (1, .int c1), (2, .int c2), (4, .int w15.2.2)]) hx hb dX1_span_89 rfl hl (by decide) rfl (fun ls hl => ?_)
          obtain ⟨v90, ev90, hf⟩ := obd hf
          refine lv_iinc (v := v90) (lv' := [(4, .int v90), (3, .int v89), (5, .int x55), (0, .ref o), (1, .int c1), (2, .int c2)]) hx hb dX1_span_90 hl (k := 5) rfl (iiE ev90 (by decide)) (by decide) rfl (fun ls hl => ?_)
          refine lv_goto (tgt := 15) hx hb dX1_span_93 (by decide) ?_
          exact hk _ (Option.some.inj hf).symm H locs ls hI (lv_sub hl [3, 4, 5, 1, 0] rfl)
        · replace hf := ineg hc hf
          refine lv_iload_n hx hb dX1_span_74 rfl (lv_at hl 4 rfl) ?_
          refine lv_iload hx hb dX1_span_75 (lv_at hl 0 rfl) ?_
          refine va_mmax hx hb (hml.trans hl.1.symm) hown (hts _ q678) (hts _ q679) (hts _ q150) (hts _ q680) (Nat.le_of_ble_eq_true rfl) (Nat.le_of_ble_eq_true rfl) (Nat.le_of_ble_eq_true rfl) (Nat.le_of_ble_eq_true rfl) dX1_span_77 ?_
          refine lv_goto (tgt := 89) hx hb dX1_span_80 (by decide) ?_
          obtain ⟨v89_11, ev89_11, hf⟩ := obd hf
          refine nmI ev89_11 ?_
          refine lv_istore_n (lv' := [(3, .int v89_11), (5, .int x55), (0, .ref o), (1, .int c1), (2, .int c2), (4, .int w15.2.2)]) hx hb dX1_span_89 rfl hl (by decide) rfl (fun ls hl => ?_)
          obtain ⟨v90_12, ev90_12, hf⟩ := obd hf
          refine lv_iinc (v := v90_12) (lv' := [(4, .int v90_12), (3, .int v89_11), (5, .int x55), (0, .ref o), (1, .int c1), (2, .int c2)]) hx hb dX1_span_90 hl (k := 5) rfl (iiE ev90_12 (by decide)) (by decide) rfl (fun ls hl => ?_)
          refine lv_goto (tgt := 15) hx hb dX1_span_93 (by decide) ?_
          exact hk _ (Option.some.inj hf).symm H locs ls hI (lv_sub hl [3, 4, 5, 1, 0] rfl)
      · replace hf := ipos hc hf
        refine lv_iload hx hb dX1_span_65 (lv_at hl 0 rfl) ?_
        refine lv_goto (tgt := 89) hx hb dX1_span_67 (by decide) ?_
        refine lv_istore_n (lv' := [(3, .int x55), (5, .int x55), (0, .ref o), (1, .int c1), (2, .int c2), (4, .int w15.2.2)]) hx hb dX1_span_89 rfl hl (by decide) rfl (fun ls hl => ?_)
        obtain ⟨v90_13, ev90_13, hf⟩ := obd hf
        refine lv_iinc (v := v90_13) (lv' := [(4, .int v90_13), (3, .int x55), (5, .int x55), (0, .ref o), (1, .int c1), (2, .int c2)]) hx hb dX1_span_90 hl (k := 5) rfl (iiE ev90_13 (by decide)) (by decide) rfl (fun ls hl => ?_)
        refine lv_goto (tgt := 15) hx hb dX1_span_93 (by decide) ?_
        exact hk _ (Option.some.inj hf).symm H locs ls hI (lv_sub hl [3, 4, 5, 1, 0] rfl)
  refine loopO_W (Wat := fun w15 => ∀ (H : Heap) (locs : List Loc) (ls : Array Slot), IC D J o Ld s H locs w15.1 → lv_has ls 6 [(0, .ref o), (1, .int a1), (2, .int a2), (3, .int w15.2.1), (4, .int w15.2.2)] → W p l e ({ frames := 66, cells := 1, slots := 6, locals := 3136 } : Room) s m args below meth c H locs 0 0 Q (F0 m 15 ls [])) (Wex := fun ex_ => ∀ (H : Heap) (locs : List Loc) (ls : Array Slot), IC D J o Ld s H locs ex_.1 → lv_has ls 6 [(3, .int ex_.2)] → W p l e ({ frames := 66, cells := 1, slots := 6, locals := 3136 } : Room) s m args below meth c H locs 0 0 Q (F0 m 96 ls [])) (hs15 a1 a2) FU _ e15 he15 ?_ H locs ls hI (lv_sub hl [2, 3, 4, 1, 0] rfl)
  · skip
    intro H locs ls hI hl
    refine lv_iload_n hx hb dX1_span_96 rfl (lv_at hl 0 rfl) ?_
    refine W.widen (k := 1) (n := 6) (Nat.le_of_ble_eq_true rfl) (Nat.le_of_ble_eq_true rfl) ?_
    exact hret H locs 97 ls _ _ hI (Option.some.inj hf).symm dX1_span_97

theorem cwX1_ofLog_X1 {R : Room} {s : State} {args : Array Value} {fr lo : Nat} (hts : ∀ w ∈ lw_all, w.before args s = true) (hR : fr + 1 ≤ R.frames ∧ 8 + (3 + 11) + lo ≤ R.locals) : CallW R s args RX1 RX1 661 yX1_ofLog cX1_ofLog 3 (some .int) (ws_ yX1_ofLog cX1_ofLog 3 (some .int)) ({ frames := fr, cells := 0, slots := 0, locals := lo }) 0 0 2 :=
  cwV 2 hts (lw_V q2076 q2078 qs59 q133 q2079) rfl rfl rfl (by decide +kernel) hR
def X1_led_L21 (τ : Cs) (c1 : Int32) (c2 : Int32) (w21 : Int32 × Int32 × Int32) : Option ((Int32 × Int32 × Int32) ⊕ (Int32 × Int32)) :=
  if w21.2.2 < (0 : Int32) then
    some (.inr (w21.1, w21.2.1))
  else
    (X1_ofLog τ w21.2.2 (1 : Int32)).bind fun x30 =>
    if x30 = c1 then
      (some (w21.1 + (1 : Int32))).bind fun v40 =>
      (X1_ofLog τ w21.2.2 (0 : Int32)).bind fun x47 =>
      (some (w21.2.2 + (-1 : Int32))).bind fun v52 =>
      some (.inl (v40, x47, v52))
    else
      (some (w21.2.2 + (-1 : Int32))).bind fun v52_8 =>
      some (.inl (w21.1, w21.2.1, v52_8))
def X1_led (τ : Cs) (a1 : Int32) (a2 : Int32) : Option Xo :=
  (X1_deedAt τ a1).bind fun x2 =>
  Sum.elim (fun (v2 : Int32 × Cs) =>
    (some ((cw v2.2 0 0 7) - (1 : Int32))).bind fun v19 =>
    (loopO (X1_led_L21 v2.2 a1 a2) FU ((0 : Int32), (-1 : Int32), v19)).bind fun e21 =>
    if a2 = (0 : Int32) then
      some (.inl (e21.1, v2.2))
    else
      some (.inl (e21.2, v2.2))) (fun (u : Nat × Cs) => some (.inr u)) x2
set_option maxHeartbeats 4000000 in
theorem mX1_led (Λ : Nat → Nat → (Nat → Int32) → Int32) (Λn : Nat → Int32) (τ : Cs) (a1 : Int32) (a2 : Int32) (out : Xo) (hf : X1_led τ a1 a2 = some out) : CXi yX1_led cX1_led 6 (some .int) 12 342 1 6 Λ Λn (fun o aK aF => [.ref o, .int a1, .int a2]) out τ := by
  refine CXi.of (by decide) (fun _ _ _ => Nat.le_of_ble_eq_true rfl) ?_
  intro p l e s m args below meth c D J o z aK aV G Ld aF Q ls hst hx hb hml hown hts hE hT hret hxx hthr hI hl
  obtain ⟨H, eH⟩ : ∃ H, H = s.heap := ⟨_, rfl⟩
  obtain ⟨locs, eL⟩ : ∃ L : List Loc, L = [] := ⟨_, rfl⟩
  rw [← eH, ← eL] at hI ⊢
  have hown : s.vm.findClass RX1 = some m.cls := hown
  have hl : lv_has ls 6 [(0, .ref o), (1, .int a1), (2, .int a2)] := hl
  unfold X1_led at hf
  refine lv_aload_n hx hb dX1_led_0 rfl (lv_at hl 0 rfl) ?_
  refine lv_iload_n hx hb dX1_led_1 rfl (lv_at hl 1 rfl) ?_
  obtain ⟨x2, ex2, hf⟩ := obd hf
  refine xcallV (rest := []) hx hb hts hst hown hE hT hI hml hl.1 (mX1_deedAt Λ Λn τ a1 _ ex2) (cwX1_deedAt_X1 hts ⟨Nat.le_of_ble_eq_true rfl, Nat.le_of_ble_eq_true rfl⟩) (hI.1.o 0 rfl) rfl rfl ⟨Nat.le_of_ble_eq_true rfl, Nat.le_of_ble_eq_true rfl⟩ rfl rfl (lv_room (Nat.le_of_ble_eq_true rfl)) dX1_led_2 (fun E ce q9 n σ' H locs ho hn hI h1 h2 h3 => by subst ho; have hf := selR hf; exact hxx H locs 2 ls _ _ _ E ce q9 n σ' hI (Option.some.inj hf).symm hn h1 h2 h3 (Nat.le_of_ble_eq_true rfl) (Nat.le_of_ble_eq_true rfl)) (fun v2 H locs ho hI => ?_)
  subst ho
  replace hf := selL hf
  refine lv_iconst (v := (0 : Int32)) hx hb dX1_led_5 (by decide) ?_
  refine lv_istore_n (lv' := [(3, .int (0 : Int32)), (0, .ref o), (1, .int a1), (2, .int a2)]) hx hb dX1_led_6 rfl hl (by decide) rfl (fun ls hl => ?_)
  refine lv_iconst (v := (-1 : Int32)) hx hb dX1_led_7 (by decide) ?_
  refine lv_istore (lv' := [(4, .int (-1 : Int32)), (3, .int (0 : Int32)), (0, .ref o), (1, .int a1), (2, .int a2)]) hx hb dX1_led_8 hl (by decide) rfl (fun ls hl => ?_)
  refine lv_aload_n hx hb dX1_led_10 rfl (lv_at hl 2 rfl) ?_
  refine gget hx hb hts in_X1 hown hE.1.1 (hI.1.o 0 rfl) rfl 0 (by decide) q463 rfl dX1_led_11 ?_
  refine ggetN hx hb hts in_X2 hown hE.1.1 (hI.1.w 0 (by decide) 0 rfl) rfl 7 (by decide) (hE.1.2.2.f 9 rfl) rfl dX1_led_14 ?_
  refine lv_iconst (v := (1 : Int32)) hx hb dX1_led_17 (by decide) ?_
  refine lv_isub hx hb dX1_led_18 ?_
  obtain ⟨v19, ev19, hf⟩ := obd hf
  refine nmI ev19 ?_
  refine lv_istore (lv' := [(5, .int v19), (4, .int (-1 : Int32)), (3, .int (0 : Int32)), (0, .ref o), (1, .int a1), (2, .int a2)]) hx hb dX1_led_19 hl (by decide) rfl (fun ls hl => ?_)
  obtain ⟨e21, he21, hf⟩ := obd hf
  have hs21 : ∀ (τ : Cs) (c1 : Int32) (c2 : Int32), ∀ (w21 : Int32 × Int32 × Int32) (o21 : (Int32 × Int32 × Int32) ⊕ (Int32 × Int32)), X1_led_L21 τ c1 c2 w21 = some o21 → (∀ wx_, o21 = .inl wx_ → ∀ (H : Heap) (locs : List Loc) (ls : Array Slot), IC D J o Ld s H locs τ → lv_has ls 6 [(0, .ref o), (1, .int c1), (2, .int c2), (3, .int wx_.1), (4, .int wx_.2.1), (5, .int wx_.2.2)] → W p l e ({ frames := 12, cells := 1, slots := 6, locals := 342 } : Room) s m args below meth c H locs 1 6 Q (F0 m 21 ls [])) → (∀ ex_, o21 = .inr ex_ → ∀ (H : Heap) (locs : List Loc) (ls : Array Slot), IC D J o Ld s H locs τ → lv_has ls 6 [(2, .int c2), (3, .int ex_.1), (4, .int ex_.2)] → W p l e ({ frames := 12, cells := 1, slots := 6, locals := 342 } : Room) s m args below meth c H locs 1 6 Q (F0 m 58 ls [])) → ∀ (H : Heap) (locs : List Loc) (ls : Array Slot), IC D J o Ld s H locs τ → lv_has ls 6 [(0, .ref o), (1, .int c1), (2, .int c2), (3, .int w21.1), (4, .int w21.2.1), (5, .int w21.2.2)] → W p l e ({ frames := 12, cells := 1, slots := 6, locals := 342 } : Room) s m args below meth c H locs 1 6 Q (F0 m 21 ls []) := by
    intro τ c1 c2 w21 o21 hf hk hq H locs ls hI hl
    unfold X1_led_L21 at hf
    refine lv_iload hx hb dX1_led_21 (lv_at hl 5 rfl) ?_
    refine lv_if_lt (tgt := 58) hx hb dX1_led_23 (by decide) (fun hc => ?_) (fun hc => ?_)
    · replace hf := ipos hc hf
      exact hq _ (Option.some.inj hf).symm H locs ls hI (lv_sub hl [2, 3, 4] rfl)
    · replace hf := ineg hc hf
      refine lv_aload_n hx hb dX1_led_26 rfl (lv_at hl 0 rfl) ?_
      refine lv_iload hx hb dX1_led_27 (lv_at hl 5 rfl) ?_
      refine lv_iconst (v := (1 : Int32)) hx hb dX1_led_29 (by decide) ?_
      obtain ⟨x30, ex30, hf⟩ := obd hf
      refine ccallI (rest := []) hx hb hts hown hE hI hml hl.1 (mX1_ofLog Λ Λn τ w21.2.2 (1 : Int32) _ ex30) (cwX1_ofLog_X1 hts ⟨Nat.le_of_ble_eq_true rfl, Nat.le_of_ble_eq_true rfl⟩) (hI.1.o 0 rfl) rfl rfl ⟨Nat.le_of_ble_eq_true rfl, Nat.le_of_ble_eq_true rfl⟩ rfl rfl (lv_room (Nat.le_of_ble_eq_true rfl)) dX1_led_30 (fun H locs hI => ?_)
      refine lv_iload_n hx hb dX1_led_33 rfl (lv_at hl 1 rfl) ?_
      refine lv_icmp_eq (tgt := 40) hx hb dX1_led_34 (by decide) (fun hc => ?_) (fun hc => ?_)
      · replace hf := ipos hc hf
        obtain ⟨v40, ev40, hf⟩ := obd hf
        refine lv_iinc (v := v40) (lv' := [(3, .int v40), (0, .ref o), (1, .int c1), (2, .int c2), (4, .int w21.2.1), (5, .int w21.2.2)]) hx hb dX1_led_40 hl (k := 3) rfl (iiE ev40 (by decide)) (by decide) rfl (fun ls hl => ?_)
        refine lv_aload_n hx hb dX1_led_43 rfl (lv_at hl 1 rfl) ?_
        refine lv_iload hx hb dX1_led_44 (lv_at hl 5 rfl) ?_
        refine lv_iconst (v := (0 : Int32)) hx hb dX1_led_46 (by decide) ?_
        obtain ⟨x47, ex47, hf⟩ := obd hf
        refine ccallI (rest := []) hx hb hts hown hE hI hml hl.1 (mX1_ofLog Λ Λn τ w21.2.2 (0 : Int32) _ ex47) (cwX1_ofLog_X1 hts ⟨Nat.le_of_ble_eq_true rfl, Nat.le_of_ble_eq_true rfl⟩) (hI.1.o 0 rfl) rfl rfl ⟨Nat.le_of_ble_eq_true rfl, Nat.le_of_ble_eq_true rfl⟩ rfl rfl (lv_room (Nat.le_of_ble_eq_true rfl)) dX1_led_47 (fun H locs hI => ?_)
        refine lv_istore (lv' := [(4, .int x47), (3, .int v40), (0, .ref o), (1, .int c1), (2, .int c2), (5, .int w21.2.2)]) hx hb dX1_led_50 hl (by decide) rfl (fun ls hl => ?_)
        obtain ⟨v52, ev52, hf⟩ := obd hf
        refine lv_iinc (v := v52) (lv' := [(5, .int v52), (4, .int x47), (3, .int v40), (0, .ref o), (1, .int c1), (2, .int c2)]) hx hb dX1_led_52 hl (k := 5) rfl (iiE ev52 (by decide)) (by decide) rfl (fun ls hl => ?_)
        refine lv_goto (tgt := 21) hx hb dX1_led_55 (by decide) ?_
        exact hk _ (Option.some.inj hf).symm H locs ls hI (lv_sub hl [3, 4, 5, 2, 1, 0] rfl)
      · replace hf := ineg hc hf
        refine lv_goto (tgt := 52) hx hb dX1_led_37 (by decide) ?_
        obtain ⟨v52_8, ev52_8, hf⟩ := obd hf
        refine lv_iinc (v := v52_8) (lv' := [(5, .int v52_8), (0, .ref o), (1, .int c1), (2, .int c2), (3, .int w21.1), (4, .int w21.2.1)]) hx hb dX1_led_52 hl (k := 5) rfl (iiE ev52_8 (by decide)) (by decide) rfl (fun ls hl => ?_)
        refine lv_goto (tgt := 21) hx hb dX1_led_55 (by decide) ?_
        exact hk _ (Option.some.inj hf).symm H locs ls hI (lv_sub hl [1, 2, 3, 4, 5, 0] rfl)
  refine loopO_W (Wat := fun w21 => ∀ (H : Heap) (locs : List Loc) (ls : Array Slot), IC D J o Ld s H locs v2.2 → lv_has ls 6 [(0, .ref o), (1, .int a1), (2, .int a2), (3, .int w21.1), (4, .int w21.2.1), (5, .int w21.2.2)] → W p l e ({ frames := 12, cells := 1, slots := 6, locals := 342 } : Room) s m args below meth c H locs 1 6 Q (F0 m 21 ls [])) (Wex := fun ex_ => ∀ (H : Heap) (locs : List Loc) (ls : Array Slot), IC D J o Ld s H locs v2.2 → lv_has ls 6 [(2, .int a2), (3, .int ex_.1), (4, .int ex_.2)] → W p l e ({ frames := 12, cells := 1, slots := 6, locals := 342 } : Room) s m args below meth c H locs 1 6 Q (F0 m 58 ls [])) (hs21 v2.2 a1 a2) FU _ e21 he21 ?_ H locs ls hI (lv_sub hl [3, 4, 5, 2, 1, 0] rfl)
  · skip
    intro H locs ls hI hl
    refine lv_iload_n hx hb dX1_led_58 rfl (lv_at hl 0 rfl) ?_
    refine lv_if_eq (tgt := 67) hx hb dX1_led_59 (by decide) (fun hc => ?_) (fun hc => ?_)
    · replace hf := ipos hc hf
      refine lv_iload_n hx hb dX1_led_67 rfl (lv_at hl 1 rfl) ?_
      exact hret H locs 68 ls _ _ hI (Option.some.inj hf).symm dX1_led_68
    · replace hf := ineg hc hf
      refine lv_iload hx hb dX1_led_62 (lv_at hl 2 rfl) ?_
      refine lv_goto (tgt := 68) hx hb dX1_led_64 (by decide) ?_
      exact hret H locs 68 ls _ _ hI (Option.some.inj hf).symm dX1_led_68

def X1_log (τ : Cs) (a1 : Int32) (a2 : Int32) : Option Xo :=
  (X1_question a2 (3 : Int32)).bind fun x2 =>
  Option.elim x2 (
  (X1_in a1 (0 : Int32) ((cw τ 0 0 7) - (1 : Int32))).bind fun x16 =>
  if x16 = (0 : Int32) then
    some (.inl ((-1 : Int32), τ))
  else
    (X1_ofLog τ a1 a2).bind fun x25 =>
    some (.inl (x25, τ))) fun n => some (.inr (n, τ))
set_option maxHeartbeats 4000000 in
theorem mX1_log (Λ : Nat → Nat → (Nat → Int32) → Int32) (Λn : Nat → Int32) (τ : Cs) (a1 : Int32) (a2 : Int32) (out : Xo) (hf : X1_log τ a1 a2 = some out) : CXi yX1_log cX1_log 3 (some .int) 11 321 1 6 Λ Λn (fun o aK aF => [.ref o, .int a1, .int a2]) out τ := by
  refine CXi.of (by decide) (fun _ _ _ => Nat.le_of_ble_eq_true rfl) ?_
  intro p l e s m args below meth c D J o z aK aV G Ld aF Q ls hst hx hb hml hown hts hE hT hret hxx hthr hI hl
  obtain ⟨H, eH⟩ : ∃ H, H = s.heap := ⟨_, rfl⟩
  obtain ⟨locs, eL⟩ : ∃ L : List Loc, L = [] := ⟨_, rfl⟩
  rw [← eH, ← eL] at hI ⊢
  have hown : s.vm.findClass RX1 = some m.cls := hown
  have hl : lv_has ls 3 [(0, .ref o), (1, .int a1), (2, .int a2)] := hl
  unfold X1_log at hf
  refine lv_iload_n hx hb dX1_log_0 rfl (lv_at hl 2 rfl) ?_
  refine lv_iconst (v := (3 : Int32)) hx hb dX1_log_1 (by decide) ?_
  obtain ⟨x2, ex2, hf⟩ := obd hf
  rcases x2 with _ | nx2
  rotate_left
  · replace hf := oelS hf
    exact xcallS (rest := []) hx hb hts hst hown hE hT hI hml hl.1 (mX1_question a2 (3 : Int32) _ ex2) (csX1_question_X1 hts ⟨Nat.le_of_ble_eq_true rfl, Nat.le_of_ble_eq_true rfl⟩) ⟨Nat.le_of_ble_eq_true rfl, Nat.le_of_ble_eq_true rfl⟩ rfl rfl (lv_room (Nat.le_of_ble_eq_true rfl)) dX1_log_2 (fun E ce q9 n H locs ho hn hI h1 h2 h3 => by cases ho; exact hxx H locs 2 ls _ _ _ E ce q9 _ _ hI (Option.some.inj hf).symm hn h1 h2 h3 (Nat.le_of_ble_eq_true rfl) (Nat.le_of_ble_eq_true rfl)) (fun ho => by cases ho)
  replace hf := oelN hf
  refine tcallSv (rest := []) hx hb hts hown hml hl.1 (nX1_question a2 (3 : Int32) ex2) (dsX1_question_X1 hts ⟨Nat.le_of_ble_eq_true rfl, Nat.le_of_ble_eq_true rfl⟩) ⟨Nat.le_of_ble_eq_true rfl, Nat.le_of_ble_eq_true rfl⟩ rfl rfl (lv_room (Nat.le_of_ble_eq_true rfl)) dX1_log_2 ?_
  refine lv_iload_n hx hb dX1_log_5 rfl (lv_at hl 1 rfl) ?_
  refine lv_iconst (v := (0 : Int32)) hx hb dX1_log_6 (by decide) ?_
  refine lv_aload_n hx hb dX1_log_7 rfl (lv_at hl 0 rfl) ?_
  refine gget hx hb hts in_X1 hown hE.1.1 (hI.1.o 0 rfl) rfl 0 (by decide) q463 rfl dX1_log_8 ?_
  refine ggetN hx hb hts in_X2 hown hE.1.1 (hI.1.w 0 (by decide) 0 rfl) rfl 7 (by decide) (hE.1.2.2.f 9 rfl) rfl dX1_log_11 ?_
  refine lv_iconst (v := (1 : Int32)) hx hb dX1_log_14 (by decide) ?_
  refine lv_isub hx hb dX1_log_15 ?_
  obtain ⟨x16, ex16, hf⟩ := obd hf
  refine tcallS (rest := []) hx hb hts hown hml hl.1 (mX1_in a1 (0 : Int32) ((cw τ 0 0 7) - (1 : Int32)) _ ex16) (csX1_in_X1 hts ⟨Nat.le_of_ble_eq_true rfl, Nat.le_of_ble_eq_true rfl⟩) ⟨Nat.le_of_ble_eq_true rfl, Nat.le_of_ble_eq_true rfl⟩ rfl rfl (lv_room (Nat.le_of_ble_eq_true rfl)) dX1_log_16 ?_
  refine lv_if_eq (tgt := 31) hx hb dX1_log_19 (by decide) (fun hc => ?_) (fun hc => ?_)
  · replace hf := ipos hc hf
    refine lv_iconst (v := (-1 : Int32)) hx hb dX1_log_31 (by decide) ?_
    refine W.widen (k := 1) (n := 6) (Nat.le_of_ble_eq_true rfl) (Nat.le_of_ble_eq_true rfl) ?_
    exact hret H locs 32 ls _ _ hI (Option.some.inj hf).symm dX1_log_32
  · replace hf := ineg hc hf
    refine lv_aload_n hx hb dX1_log_22 rfl (lv_at hl 0 rfl) ?_
    refine lv_iload_n hx hb dX1_log_23 rfl (lv_at hl 1 rfl) ?_
    refine lv_iload_n hx hb dX1_log_24 rfl (lv_at hl 2 rfl) ?_
    obtain ⟨x25, ex25, hf⟩ := obd hf
    refine ccallI (rest := []) hx hb hts hown hE hI hml hl.1 (mX1_ofLog Λ Λn τ a1 a2 _ ex25) (cwX1_ofLog_X1 hts ⟨Nat.le_of_ble_eq_true rfl, Nat.le_of_ble_eq_true rfl⟩) (hI.1.o 0 rfl) rfl rfl ⟨Nat.le_of_ble_eq_true rfl, Nat.le_of_ble_eq_true rfl⟩ rfl rfl (lv_room (Nat.le_of_ble_eq_true rfl)) dX1_log_25 (fun H locs hI => ?_)
    refine lv_goto (tgt := 32) hx hb dX1_log_28 (by decide) ?_
    refine W.widen (k := 1) (n := 6) (Nat.le_of_ble_eq_true rfl) (Nat.le_of_ble_eq_true rfl) ?_
    exact hret H locs 32 ls _ _ hI (Option.some.inj hf).symm dX1_log_32

def X1_damp (τ : Cs) (a1 : Int32) : Option Xo :=
  (X1_there a1 (4 : Int32)).bind fun x2 =>
  Option.elim x2 (
  (ld 4 (cw τ 0 9) a1).bind fun x13 =>
  some (.inl (x13, τ))) fun n => some (.inr (n, τ))
set_option maxHeartbeats 4000000 in
theorem mX1_damp (Λ : Nat → Nat → (Nat → Int32) → Int32) (Λn : Nat → Int32) (τ : Cs) (a1 : Int32) (out : Xo) (hf : X1_damp τ a1 = some out) : CXi yX1_damp cX1_damp 2 (some .int) 11 321 1 6 Λ Λn (fun o aK aF => [.ref o, .int a1]) out τ := by
  refine CXi.of (by decide) (fun _ _ _ => Nat.le_of_ble_eq_true rfl) ?_
  intro p l e s m args below meth c D J o z aK aV G Ld aF Q ls hst hx hb hml hown hts hE hT hret hxx hthr hI hl
  obtain ⟨H, eH⟩ : ∃ H, H = s.heap := ⟨_, rfl⟩
  obtain ⟨locs, eL⟩ : ∃ L : List Loc, L = [] := ⟨_, rfl⟩
  rw [← eH, ← eL] at hI ⊢
  have hown : s.vm.findClass RX1 = some m.cls := hown
  have hl : lv_has ls 2 [(0, .ref o), (1, .int a1)] := hl
  unfold X1_damp at hf
  refine lv_iload_n hx hb dX1_damp_0 rfl (lv_at hl 1 rfl) ?_
  refine lv_iconst (v := (4 : Int32)) hx hb dX1_damp_1 (by decide) ?_
  obtain ⟨x2, ex2, hf⟩ := obd hf
  rcases x2 with _ | nx2
  rotate_left
  · replace hf := oelS hf
    exact xcallS (rest := []) hx hb hts hst hown hE hT hI hml hl.1 (mX1_there a1 (4 : Int32) _ ex2) (csX1_there_X1 hts ⟨Nat.le_of_ble_eq_true rfl, Nat.le_of_ble_eq_true rfl⟩) ⟨Nat.le_of_ble_eq_true rfl, Nat.le_of_ble_eq_true rfl⟩ rfl rfl (lv_room (Nat.le_of_ble_eq_true rfl)) dX1_damp_2 (fun E ce q9 n H locs ho hn hI h1 h2 h3 => by cases ho; exact hxx H locs 2 ls _ _ _ E ce q9 _ _ hI (Option.some.inj hf).symm hn h1 h2 h3 (Nat.le_of_ble_eq_true rfl) (Nat.le_of_ble_eq_true rfl)) (fun ho => by cases ho)
  replace hf := oelN hf
  refine tcallSv (rest := []) hx hb hts hown hml hl.1 (nX1_there a1 (4 : Int32) ex2) (dsX1_there_X1 hts ⟨Nat.le_of_ble_eq_true rfl, Nat.le_of_ble_eq_true rfl⟩) ⟨Nat.le_of_ble_eq_true rfl, Nat.le_of_ble_eq_true rfl⟩ rfl rfl (lv_room (Nat.le_of_ble_eq_true rfl)) dX1_damp_2 ?_
  refine lv_aload_n hx hb dX1_damp_5 rfl (lv_at hl 0 rfl) ?_
  refine gget hx hb hts in_X1 hown hE.1.1 (hI.1.o 0 rfl) rfl 0 (by decide) q463 rfl dX1_damp_6 ?_
  refine ggetN hx hb hts in_X2 hown hE.1.1 (hI.1.w 0 (by decide) 0 rfl) rfl 9 (by decide) (hE.1.2.2.f 11 rfl) rfl dX1_damp_9 ?_
  refine lv_iload_n hx hb dX1_damp_12 rfl (lv_at hl 1 rfl) ?_
  obtain ⟨x13, ex13, hf⟩ := obd hf
  refine gald hx hb hE.1.1 0 (hI.1.w 0 (by decide) 1 rfl) rfl ex13 dX1_damp_13 ?_
  refine W.widen (k := 1) (n := 6) (Nat.le_of_ble_eq_true rfl) (Nat.le_of_ble_eq_true rfl) ?_
  exact hret H locs 14 ls _ _ hI (Option.some.inj hf).symm dX1_damp_14

def X1_fails (τ : Cs) : Option Xo :=
  (some (cou τ (mup (co τ) 1 5 (co τ 1 4)))).bind fun t11 =>
  some (.inr (1, t11))
set_option maxHeartbeats 4000000 in
theorem mX1_fails (Λ : Nat → Nat → (Nat → Int32) → Int32) (Λn : Nat → Int32) (τ : Cs) (out : Xo) (hf : X1_fails τ = some out) : CXv yX1_fails cX1_fails 1 (none) 8 300 1 6 Λ Λn (fun o aK aF => [.ref o]) out τ := by
  refine CXv.of (by decide) (fun _ _ _ => Nat.le_of_ble_eq_true rfl) ?_
  intro p l e s m args below meth c D J o z aK aV G Ld aF Q ls hst hx hb hml hown hts hE hT hret hxx hthr hI hl
  obtain ⟨H, eH⟩ : ∃ H, H = s.heap := ⟨_, rfl⟩
  obtain ⟨locs, eL⟩ : ∃ L : List Loc, L = [] := ⟨_, rfl⟩
  rw [← eH, ← eL] at hI ⊢
  have hown : s.vm.findClass RX1 = some m.cls := hown
  have hl : lv_has ls 1 [(0, .ref o)] := hl
  unfold X1_fails at hf
  refine lv_aload_n hx hb dX1_fails_0 rfl (lv_at hl 0 rfl) ?_
  refine gget hx hb hts in_X1 hown hE.1.1 (hI.1.o 0 rfl) rfl 4 (by decide) q469 rfl dX1_fails_1 ?_
  refine lv_aload_n hx hb dX1_fails_4 rfl (lv_at hl 0 rfl) ?_
  refine gget hx hb hts in_X1 hown hE.1.1 (hI.1.o 0 rfl) rfl 4 (by decide) q469 rfl dX1_fails_5 ?_
  refine ggetN hx hb hts in_X3 hown hE.1.1 (hI.1.o 1 rfl) rfl 4 (by decide) (hE.1.2.2.f 38 rfl) rfl dX1_fails_8 ?_
  obtain ⟨t11, et11, hf⟩ := obd hf
  refine gputN hx hb hts in_X3 tyX3 tyX3_ok nmX3 hown hE.1.1 (hI.1.o 1 rfl) rfl 5 (by decide) (hE.1.2.2.f 39 rfl) rfl rfl rfl (Nat.le_of_ble_eq_true rfl) dX1_fails_11 (fun H locs h1 h2 h3 h4 => ?_)
  have hI := hI.putO (σ' := cou τ (mup (co τ) 1 5 (co τ 1 4))) (P := 1) rfl rfl ⟨rfl, rfl⟩ h1 h2 h3 h4
  rw [Option.some.inj et11] at hI
  exact hthr H locs 14 ls _ _ 1 231 233 ["java/lang/RuntimeException", "java/lang/Exception"] _ hI (Option.some.inj hf).symm hl.1 (hts _ q1367) (hts _ q156) (thr1_X1 hts hT) (by decide +kernel) (by decide +kernel) (by decide +kernel) dX1_fails_14 dX1_fails_17 dX1_fails_18 dX1_fails_21 (Nat.le_of_ble_eq_true rfl) (Nat.le_of_ble_eq_true rfl) (Nat.le_of_ble_eq_true rfl) (Nat.le_of_ble_eq_true rfl)
