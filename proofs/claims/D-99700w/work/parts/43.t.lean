theorem uk_self (σ : Cs) : uk σ σ = σ := by
  obtain ⟨w, c, l, q⟩ := σ
  have h1 : (fun i => if i < 5 then w i else w i) = w := funext fun i => by split <;> rfl
  have h2 : (fun (r j : Nat) => if r = 9 then c r j else c r j) = c := funext fun r => funext fun j => by split <;> rfl
  have h3 : (fun i => if i < 5 then l i else l i) = l := funext fun i => by split <;> rfl
  show (_, _, _, _) = (_, _, _, _)
  exact congr (congrArg Prod.mk h1) (congr (congrArg Prod.mk h2) (congr (congrArg Prod.mk h3) rfl))
section UROWS
variable {p : Program} {l : Launch} {e : Env} {R : Room} {s : State} {m : MethodId} {args : Array Value} {below : List Frame} {meth : Method} {c : Code} {H : Heap} {locs : List Loc} {cells slots : Nat} {Q : State → Prop}
variable {cc : ByteArray} {pc : Nat} {ls : Array Slot} {rest : List Value} {D : va_G} {J : Nat → ClassId} {o z e0 mi N : Nat} {aK aV : Nat → Nat} {G Ld Ur : Nat → Prop} {aF : Nat → Nat} {Λ : Nat → Nat → (Nat → Int32) → Int32} {Λn : Nat → Int32} {σ σ' : Cs}
theorem UR.cut (h : UR o z G Ur e0 N) {n : Nat} (hn : N ≤ n) : UR o z G (fun q => (Ur q ∨ N ≤ q) ∧ q < n) e0 n := by
  refine ⟨fun q hq => ⟨h.za q (Or.inr (Or.inr hq.1)), h.us q (Or.inr (Or.inl hq.1)), fun g => ?_⟩, fun q hq => ⟨(h.2.1 q hq).1, (h.2.1 q hq).2.1, fun g => ?_, Nat.lt_of_lt_of_le (h.2.1 q hq).2.2.2 hn⟩, Nat.lt_of_lt_of_le h.2.2.1 hn, h.2.2.2⟩
  · rcases hq.1 with k | k
    · exact (h.1 q k).2.2 g
    · have := h.2.2.1
      omega
  · rcases g.1 with k | k
    · exact (h.2.1 q hq).2.2.1 k
    · have := (h.2.1 q hq).2.2.2
      omega
theorem AU.cut {n : Nat} (hn : N ≤ n) : ∀ q, AU o (fun q => (Ur q ∨ N ≤ q) ∧ q < n) n q → AU o Ur N q := by
  intro q h
  rcases h with h | h | h | h
  · exact Or.inl h
  · exact Or.inr (Or.inl h)
  · rcases h.1 with k | k
    · exact Or.inr (Or.inr (Or.inl k))
    · exact Or.inr (Or.inr (Or.inr k))
  · exact Or.inr (Or.inr (Or.inr (by omega)))
theorem UP.uncut {n : Nat} (hn : N ≤ n) (h : UP D J o Ld e0 (fun q => ((Ur q ∨ N ≤ q) ∧ q < n) ∨ n ≤ q) σ H) : UP D J o Ld e0 (fun q => Ur q ∨ N ≤ q) σ H := h.mono (fun q hq => by
  rcases hq with k | k
  · exact k.1
  · exact Or.inr (by omega))
theorem IU.le (hI : IU D J o Ld z G e0 Ur N s H locs σ) : N ≤ H.size := by
  have := hI.2.1.1
  have := hI.2.2.2.2
  omega
theorem IU.envU (hI : IU D J o Ld z G e0 Ur N s H locs σ) (hE : ECC D J o z aK aV G Ld aF Λ Λn s) (hT : ThrE z s) (hEU : EU e0 mi J z s) {U : State} (hU : U.heap = H) (hW : s.WarmedH U.vm) : ECU D J o z aK aV G Ld aF Λ Λn e0 mi (fun q => (Ur q ∨ N ≤ q) ∧ q < H.size) H.size U :=
  ⟨⟨⟨hI.envC hE hU hW, hI.envT hT hU hW⟩, hEU.go hW (fun q h1 h2 => by rw [hU]; exact hI.oz q h1 h2)⟩, hI.2.2.2.1.cut hI.le⟩
/-- a call of remembers -/
theorem uremem (hx : p.tables.exec = Jvm.exec) (hb : c.code = cc) (hts : ∀ w ∈ lw_all, w.before args s = true) (hown : s.vm.findClass RX1 = some m.cls) (hE : ECC D J o z aK aV G Ld aF Λ Λn s) (hT : ThrE z s) (hEU : EU e0 mi J z s) (hI : IU D J o Ld z G e0 Ur N s H locs σ) {nL : Nat} (hml : c.maxLocals = nL) (hlsz : ls.size = nL)
    (hf : X1_remembers σ = some σ') (hR : 21 ≤ R.frames ∧ 1521 ≤ R.locals) (hc : cells + 70 ≤ R.cells ∧ slots + 420 ≤ R.slots) (hW : 2 * (F0 m pc ls (.ref o :: rest)).monitorRoom + (rest.map fun v => v.category).sum ≤ 8) (hdg : decode cc pc = .ok (.invokevirtual 539, 3))
    (kk : ∀ (H1 : Heap) (locs1 : List Loc), IU D J o Ld z G e0 Ur N s H1 locs1 σ' → W p l e R s m args below meth c H1 locs1 (cells + 70) (slots + 420) Q (F0 m (pc + 3) ls rest)) : W p l e R s m args below meth c H locs cells slots Q (F0 m pc ls (.ref o :: rest)) := by
  refine va_callv (va_runV (As := []) (rest := rest) ⟨hx, hb, hml, hown, hts⟩ (mX1_remembers Λ Λn σ σ' hf l D J o z aK aV G Ld aF e0 mi (fun q => (Ur q ∨ N ≤ q) ∧ q < H.size) H.size) (cwV 0 hts (lw_V q1780 q1782 qs45 q133 q1783) rfl rfl rfl (by decide +kernel) ⟨hR.1, Nat.le_trans (Nat.le_of_ble_eq_true rfl) hR.2⟩) ⟨fun a U g mk q => ⟨q.1, q.2.1, q.2.2.refl (State.WarmedH.refl U) rfl⟩, g_recv hE.1.1 (hI.1.o 0 rfl) rfl, fun U hU hW => ⟨rfl, ⟨by rw [hU], by rw [hU]; exact hI.1, by rw [hU]; exact hI.2.2.1.cut⟩, hI.envU hE hT hEU hU hW⟩⟩ rfl rfl hlsz rfl hW hdg ⟨hc.1, hc.2⟩) hI.2.1 (fun q _ h => AU.cut hI.le q h) (fun q h => AU.cut hI.le q h) (fun u t H1 locs1 ht hvm hp hB hz1 hk1 hS => ?_)
  rw [ht] at hB
  exact kk H1 locs1 ⟨hB.1, hS, UP.uncut hI.le hB.2, hI.2.2.2⟩
/-- the list is emptied -/
theorem uclear (hx : p.tables.exec = Jvm.exec) (hb : c.code = cc) (hts : ∀ w ∈ lw_all, w.before args s = true) (hown : s.vm.findClass RX1 = some m.cls) (hE : ECC D J o z aK aV G Ld aF Λ Λn s) (hEU : EU e0 mi J z s) (hI : IU D J o Ld z G e0 Ur N s H locs σ) {nL : Nat} (hml : c.maxLocals = nL) (hlsz : ls.size = nL)
    (hR : 2 ≤ R.frames ∧ 100 ≤ R.locals) (hc : cells ≤ R.cells ∧ slots ≤ R.slots) (hW : 2 * (F0 m pc ls (.ref (o + 85) :: rest)).monitorRoom + (rest.map fun v => v.category).sum ≤ 8) (hdg : decode cc pc = .ok (.invokevirtual 255, 3))
    (kk : ∀ (H1 : Heap) (locs1 : List Loc), IU D J o Ld z G e0 Ur N s H1 locs1 (nuU σ 0) → W p l e R s m args below meth c H1 locs1 cells slots Q (F0 m (pc + 3) ls rest)) : W p l e R s m args below meth c H locs cells slots Q (F0 m pc ls (.ref (o + 85) :: rest)) := by
  have hI0 := hI
  obtain ⟨hP, hS0, ⟨n, cap, arr, mc, u, hUA⟩, hUR, hN⟩ := hI
  obtain ⟨a1, a2, a3, a4, a5, a6, a7, a8, a9, a10⟩ := hUA
  have hEQ := hEU.eq hE.1
  have hzo := hUR.2.2.2.1
  have hoN := hUR.2.2.1
  have us1 : ∀ q, (Ur q ∨ N ≤ q) → ¬ rC o q ∧ q ≠ o + 85 ∧ z ≤ q := by
    intro q h
    refine ⟨hUR.us q (Or.inr (Or.inl h)), fun g => ?_, hUR.za q (Or.inr (Or.inr h))⟩
    rcases h with h | h
    · exact (hUR.1 q h).2.2 g
    · omega
  have harr : arr ≠ o + 85 := by
    rcases Nat.eq_zero_or_pos cap with g | g
    · have := a5 g
      have := hUR.2.2.2.2
      omega
    · exact (us1 arr (a6 g)).2.1
  refine va_callv (va_runV (As := []) (rest := rest) ⟨hx, hb, hml, hown, hts⟩ (mJ3_clear l D J z aK aV e0 mi (o + 85) arr cap n mc (lsF n u) a3 (by omega) (by omega) (fun g => (us1 arr (a6 (by omega))).2.2) harr) (cwJ3_clear_X1 hts ⟨hR.1, Nat.le_trans (Nat.le_of_ble_eq_true rfl) hR.2⟩) ⟨fun a U g mk q => ⟨q.1, q.2.1, q.2.2.go (State.WarmedH.refl U) (fun _ _ _ => rfl)⟩, g_recv hE.1.1 a7 rfl, fun U hU hW => ⟨rfl, by rw [hU]; exact ⟨a7, a8⟩, hEQ.go hW (fun q h1 h2 => by rw [hU]; exact hI0.oz q h1 h2)⟩⟩ rfl rfl hlsz rfl hW hdg ⟨hc.1, hc.2⟩) hS0 (fun q _ h => ?_) (fun q h => ?_) (fun u9 t H1 locs1 ht hvm hp hB hz1 hk1 hS => ?_)
  · rcases h with h | h
    · exact Or.inr (Or.inl h)
    · rw [h.1]
      exact Or.inr (Or.inr (a6 (by omega)))
  · rcases h with h | h
    · exact Or.inr (Or.inl h)
    · rw [h.1]
      exact Or.inr (Or.inr (a6 (by omega)))
  rw [ht] at hB
  obtain ⟨d7, d8⟩ := hB
  have e8 : (fun j => if j < n then none else lsF n u j) = lsF 0 u := by
    funext j
    unfold lsF
    by_cases g : j < n
    · rw [if_pos g, if_neg (Nat.not_lt_zero _)]
    · rw [if_neg g, if_neg g, if_neg (Nat.not_lt_zero _)]
  rw [e8] at d8
  refine kk H1 locs1 ⟨(hP.kept (fun q h1 h2 => hk1 q h1 (fun g => ?_))).w5 (fun k hk => ⟨rfl, rfl⟩) ctO_co, hS, ⟨0, cap, arr, mc + 1, u, rfl, by omega, by omega, a4, a5, a6, d7, d8, fun i hi => by omega, fun i j hi => by omega⟩, hUR, hN⟩
  rcases g with g | g
  · exact h2.2.2 g
  · exact (us1 arr (a6 (by omega))).1 (g.1 ▸ h2)
/-- how many are remembered -/
theorem usize (hx : p.tables.exec = Jvm.exec) (hb : c.code = cc) (hts : ∀ w ∈ lw_all, w.before args s = true) (hown : s.vm.findClass RX1 = some m.cls) (hE : ECC D J o z aK aV G Ld aF Λ Λn s) (hI : IU D J o Ld z G e0 Ur N s H locs σ) {nL : Nat} (hml : c.maxLocals = nL) (hlsz : ls.size = nL)
    (hR : 2 ≤ R.frames ∧ 100 ≤ R.locals) (hc : cells ≤ R.cells ∧ slots ≤ R.slots) (hW : 2 * (F0 m pc ls (.ref (o + 85) :: rest)).monitorRoom + (rest.map fun v => v.category).sum ≤ 8) (hdg : decode cc pc = .ok (.invokevirtual 351, 3))
    (kk : W p l e R s m args below meth c H locs cells slots Q (F0 m (pc + 3) ls (.int (co σ 9 0) :: rest))) : W p l e R s m args below meth c H locs cells slots Q (F0 m pc ls (.ref (o + 85) :: rest)) := by
  have hI0 := hI
  obtain ⟨hP, hS0, ⟨n, cap, arr, mc, u, hUA⟩, hUR, hN⟩ := hI
  obtain ⟨a1, a2, a3, a4, a5, a6, a7, a8, a9, a10⟩ := hUA
  rw [a1] at kk
  exact rcallI (rest := rest) hx hb hts hown hml hlsz (mJ3_size D J z aK aV (o + 85) (.int mc) (.ref arr) (nI n)) (cwJ3_size_X1 hts ⟨hR.1, Nat.le_trans (Nat.le_of_ble_eq_true rfl) hR.2⟩) EC.keep.and (g_recv hE.1.1 a7 rfl) (fun U hU hW => ⟨(hI0.envC hE hU hW).1, by rw [hU]; exact a7⟩) ⟨hc.1, hc.2⟩ rfl rfl hW hdg kk
end UROWS

def X1_seasons_L18 (Λ : Nat → Nat → (Nat → Int32) → Int32) (c1 : Int32) (w18 : Cs × Int32 × Int32) : Option ((Cs × Int32 × Int32) ⊕ (Cs × Int32)) :=
  if c1 ≤ w18.2.2 then
    some (.inr (w18.1, w18.2.1))
  else
    (X1_drawnSeason Λ w18.1 0).bind fun x29 =>
    (some (uk w18.1 x29.2)).bind fun k29 =>
    (some (w18.2.1 + x29.1)).bind fun v33 =>
    (some (w18.2.2 + (1 : Int32))).bind fun v34 =>
    some (.inl (k29, v33, v34))
def X1_seasons (Λ : Nat → Nat → (Nat → Int32) → Int32) (τ : Cs) (a1 : Int32) : Option Xo :=
  (X1_in a1 (1 : Int32) (80 : Int32)).bind fun x4 =>
  (X1_demand x4).bind fun x7 =>
  Option.elim x7 (
  (X1_remembers τ).bind fun t11 =>
  (loopO (X1_seasons_L18 Λ a1) FU (t11, (0 : Int32), (0 : Int32))).bind fun e18 =>
  some (.inl (e18.2, e18.1))) fun n => some (.inr (n, τ))
set_option maxHeartbeats 4000000 in
theorem mX1_seasons (Λ : Nat → Nat → (Nat → Int32) → Int32) (Λn : Nat → Int32) (τ : Cs) (a1 : Int32) (out : Xo) (hf : X1_seasons Λ τ a1 = some out) : CYi yX1_seasons cX1_seasons 4 (some .int) 65 3114 70 420 Λ Λn (fun o aK aF => [.ref o, .int a1]) out τ := by
  refine CYi.of (by decide) (fun _ _ _ => Nat.le_of_ble_eq_true rfl) ?_
  intro p l e s m args below meth c D J o z aK aV G Ld aF e0 mi Ur N Q ls hst hx hb hml hown hts hE hT hEU hret hxx hthr hI hl
  obtain ⟨H, eH⟩ : ∃ H, H = s.heap := ⟨_, rfl⟩
  obtain ⟨locs, eL⟩ : ∃ L : List Loc, L = [] := ⟨_, rfl⟩
  rw [← eH, ← eL] at hI ⊢
  have hown : s.vm.findClass RX1 = some m.cls := hown
  have hl : lv_has ls 4 [(0, .ref o), (1, .int a1)] := hl
  unfold X1_seasons at hf
  refine lv_iload_n hx hb dX1_seasons_0 rfl (lv_at hl 1 rfl) ?_
  refine lv_iconst (v := (1 : Int32)) hx hb dX1_seasons_1 (by decide) ?_
  refine lv_bipush (v := (80 : Int32)) hx hb dX1_seasons_2 (by decide) ?_
  obtain ⟨x4, ex4, hf⟩ := obd hf
  refine tcallS (rest := []) hx hb hts hown hml hl.1 (mX1_in a1 (1 : Int32) (80 : Int32) _ ex4) (csX1_in_X1 hts ⟨Nat.le_of_ble_eq_true rfl, Nat.le_of_ble_eq_true rfl⟩) ⟨Nat.le_of_ble_eq_true rfl, Nat.le_of_ble_eq_true rfl⟩ rfl rfl (lv_room (Nat.le_of_ble_eq_true rfl)) dX1_seasons_4 ?_
  obtain ⟨x7, ex7, hf⟩ := obd hf
  rcases x7 with _ | nx7
  rotate_left
  · replace hf := oelS hf
    exact uxcallS (rest := []) hx hb hts hst hown hE hT hI hml hl.1 (mX1_demand x4 _ ex7) (csX1_demand_X1 hts ⟨Nat.le_of_ble_eq_true rfl, Nat.le_of_ble_eq_true rfl⟩) ⟨Nat.le_of_ble_eq_true rfl, Nat.le_of_ble_eq_true rfl⟩ rfl rfl (lv_room (Nat.le_of_ble_eq_true rfl)) dX1_seasons_7 (fun E ce q9 n H locs ho hn hI h1 h2 h3 => by cases ho; exact hxx H locs 7 ls _ _ _ E ce q9 _ _ hI (Option.some.inj hf).symm hn h1 h2 h3 (Nat.le_of_ble_eq_true rfl) (Nat.le_of_ble_eq_true rfl)) (fun ho => by cases ho)
  replace hf := oelN hf
  refine tcallSv (rest := []) hx hb hts hown hml hl.1 (nX1_demand x4 ex7) (dsX1_demand_X1 hts ⟨Nat.le_of_ble_eq_true rfl, Nat.le_of_ble_eq_true rfl⟩) ⟨Nat.le_of_ble_eq_true rfl, Nat.le_of_ble_eq_true rfl⟩ rfl rfl (lv_room (Nat.le_of_ble_eq_true rfl)) dX1_seasons_7 ?_
  refine lv_aload_n hx hb dX1_seasons_10 rfl (lv_at hl 0 rfl) ?_
  obtain ⟨t11, et11, hf⟩ := obd hf
  refine uremem (rest := []) hx hb hts hown hE hT hEU hI hml hl.1 et11 ⟨Nat.le_of_ble_eq_true rfl, Nat.le_of_ble_eq_true rfl⟩ ⟨Nat.le_of_ble_eq_true rfl, Nat.le_of_ble_eq_true rfl⟩ (lv_room (Nat.le_of_ble_eq_true rfl)) dX1_seasons_11 (fun H locs hI => ?_)
  refine lv_iconst (v := (0 : Int32)) hx hb dX1_seasons_14 (by decide) ?_
  refine lv_istore_n (lv' := [(2, .int (0 : Int32)), (0, .ref o), (1, .int a1)]) hx hb dX1_seasons_15 rfl hl (by decide) rfl (fun ls hl => ?_)
  refine lv_iconst (v := (0 : Int32)) hx hb dX1_seasons_16 (by decide) ?_
  refine lv_istore_n (lv' := [(3, .int (0 : Int32)), (2, .int (0 : Int32)), (0, .ref o), (1, .int a1)]) hx hb dX1_seasons_17 rfl hl (by decide) rfl (fun ls hl => ?_)
  obtain ⟨e18, he18, hf⟩ := obd hf
  have hs18 : ∀ (c1 : Int32), ∀ (w18 : Cs × Int32 × Int32) (o18 : (Cs × Int32 × Int32) ⊕ (Cs × Int32)), X1_seasons_L18 Λ c1 w18 = some o18 → (∀ wx_, o18 = .inl wx_ → ∀ (H : Heap) (locs : List Loc) (ls : Array Slot), IU D J o Ld z G e0 Ur N s H locs wx_.1 → lv_has ls 4 [(0, .ref o), (1, .int c1), (2, .int wx_.2.1), (3, .int wx_.2.2)] → W p l e ({ frames := 65, cells := 70, slots := 420, locals := 3114 } : Room) s m args below meth c H locs 70 420 Q (F0 m 18 ls [])) → (∀ ex_, o18 = .inr ex_ → ∀ (H : Heap) (locs : List Loc) (ls : Array Slot), IU D J o Ld z G e0 Ur N s H locs ex_.1 → lv_has ls 4 [(2, .int ex_.2)] → W p l e ({ frames := 65, cells := 70, slots := 420, locals := 3114 } : Room) s m args below meth c H locs 70 420 Q (F0 m 40 ls [])) → ∀ (H : Heap) (locs : List Loc) (ls : Array Slot), IU D J o Ld z G e0 Ur N s H locs w18.1 → lv_has ls 4 [(0, .ref o), (1, .int c1), (2, .int w18.2.1), (3, .int w18.2.2)] → W p l e ({ frames := 65, cells := 70, slots := 420, locals := 3114 } : Room) s m args below meth c H locs 70 420 Q (F0 m 18 ls []) := by
    intro c1 w18 o18 hf hk hq H locs ls hI hl
    unfold X1_seasons_L18 at hf
    refine lv_iload_n hx hb dX1_seasons_18 rfl (lv_at hl 3 rfl) ?_
    refine lv_iload_n hx hb dX1_seasons_19 rfl (lv_at hl 1 rfl) ?_
    refine lv_icmp_ge (tgt := 40) hx hb dX1_seasons_20 (by decide) (fun hc => ?_) (fun hc => ?_)
    · replace hf := ipos hc hf
      exact hq _ (Option.some.inj hf).symm H locs ls hI (lv_sub hl [2] rfl)
    · replace hf := ineg hc hf
      refine lv_iload_n hx hb dX1_seasons_23 rfl (lv_at hl 2 rfl) ?_
      refine lv_aload_n hx hb dX1_seasons_24 rfl (lv_at hl 0 rfl) ?_
      refine lv_aload_n hx hb dX1_seasons_25 rfl (lv_at hl 0 rfl) ?_
      refine gget hx hb hts in_X1 hown hE.1.1 (hI.1.o 0 rfl) rfl 0 (by decide) q463 rfl dX1_seasons_26 ?_
      obtain ⟨x29, ex29, hf⟩ := obd hf
      refine uccallI (rest := [.int w18.2.1]) hx hb hts hown hE hI hml hl.1 (mX1_drawnSeason Λ Λn w18.1 0 (by decide) _ _ ex29) (cwX1_drawnSeason_X1 hts ⟨Nat.le_of_ble_eq_true rfl, Nat.le_of_ble_eq_true rfl⟩) (hI.1.o 0 rfl) rfl rfl ⟨Nat.le_of_ble_eq_true rfl, Nat.le_of_ble_eq_true rfl⟩ rfl rfl (lv_room (Nat.le_of_ble_eq_true rfl)) dX1_seasons_29 (fun H locs hI => ?_)
      obtain ⟨k29, ek29, hf⟩ := obd hf
      rw [Option.some.inj ek29] at hI
      refine lv_iadd hx hb dX1_seasons_32 ?_
      obtain ⟨v33, ev33, hf⟩ := obd hf
      refine nmI ev33 ?_
      refine lv_istore_n (lv' := [(2, .int v33), (0, .ref o), (1, .int c1), (3, .int w18.2.2)]) hx hb dX1_seasons_33 rfl hl (by decide) rfl (fun ls hl => ?_)
      obtain ⟨v34, ev34, hf⟩ := obd hf
      refine lv_iinc (v := v34) (lv' := [(3, .int v34), (2, .int v33), (0, .ref o), (1, .int c1)]) hx hb dX1_seasons_34 hl (k := 3) rfl (iiE ev34 (by decide)) (by decide) rfl (fun ls hl => ?_)
      refine lv_goto (tgt := 18) hx hb dX1_seasons_37 (by decide) ?_
      exact hk _ (Option.some.inj hf).symm H locs ls hI (lv_sub hl [2, 3, 1, 0] rfl)
  refine loopO_W (Wat := fun w18 => ∀ (H : Heap) (locs : List Loc) (ls : Array Slot), IU D J o Ld z G e0 Ur N s H locs w18.1 → lv_has ls 4 [(0, .ref o), (1, .int a1), (2, .int w18.2.1), (3, .int w18.2.2)] → W p l e ({ frames := 65, cells := 70, slots := 420, locals := 3114 } : Room) s m args below meth c H locs 70 420 Q (F0 m 18 ls [])) (Wex := fun ex_ => ∀ (H : Heap) (locs : List Loc) (ls : Array Slot), IU D J o Ld z G e0 Ur N s H locs ex_.1 → lv_has ls 4 [(2, .int ex_.2)] → W p l e ({ frames := 65, cells := 70, slots := 420, locals := 3114 } : Room) s m args below meth c H locs 70 420 Q (F0 m 40 ls [])) (hs18 a1) FU _ e18 he18 ?_ H locs ls hI (lv_sub hl [2, 3, 1, 0] rfl)
  · skip
    intro H locs ls hI hl
    refine lv_iload_n hx hb dX1_seasons_40 rfl (lv_at hl 0 rfl) ?_
    exact hret H locs 41 ls _ _ hI (Option.some.inj hf).symm dX1_seasons_41

theorem cwX2_isWritten_X1 {R : Room} {s : State} {args : Array Value} {fr lo : Nat} (hts : ∀ w ∈ lw_all, w.before args s = true) (hR : fr + 1 ≤ R.frames ∧ 8 + (7 + 11) + lo ≤ R.locals) : CallW R s args RX1 RX2 156 yX2_isWritten cX2_isWritten 7 (none) (ws_ yX2_isWritten cX2_isWritten 7 (none)) ({ frames := fr, cells := 0, slots := 0, locals := lo }) 0 0 5 :=
  cwV 5 hts (lw_V q1343 q1344 q1345 q134 q1346) rfl rfl rfl (by decide +kernel) hR
def X1_write_J67 (τ : Cs) (a1 : Int32) (a2 : Int32) (a3 : Int32) (a4 : Int32) (a5 : Int32) (y0 : Int32) : Option (Xo) :=
  (X1_can y0).bind fun x67 =>
  Option.elim x67 (
  (X1_remembers τ).bind fun t71 =>
  (X2_isWritten (cw t71 0) a1 a2 a3 a4 a5).bind fun x85 =>
  (some (cwu t71 0 x85)).bind fun t85 =>
  some (.inl (((cw t85 0 0 3) - (1 : Int32)), t85))) fun n => some (.inr (n, τ))
def X1_write_J47 (τ : Cs) (a1 : Int32) (a2 : Int32) (a3 : Int32) (a4 : Int32) (a5 : Int32) (y0 : Int32) : Option (Xo) :=
  (X1_demand y0).bind fun x47 =>
  Option.elim x47 (
  if (8 : Int32) ≤ (cw τ 0 0 3) then
    X1_write_J67 τ a1 a2 a3 a4 a5 (0 : Int32)
  else
    X1_write_J67 τ a1 a2 a3 a4 a5 (1 : Int32)) fun n => some (.inr (n, τ))
def X1_write_J46 (τ : Cs) (a1 : Int32) (a2 : Int32) (a3 : Int32) (a4 : Int32) (a5 : Int32) : Option (Xo) :=
  X1_write_J47 τ a1 a2 a3 a4 a5 (0 : Int32)
def X1_write (τ : Cs) (a1 : Int32) (a2 : Int32) (a3 : Int32) (a4 : Int32) (a5 : Int32) : Option Xo :=
  (X1_inkAt τ a1).bind fun x2 =>
  Sum.elim (fun (v2 : Int32 × Cs) =>
    (some (uk τ v2.2)).bind fun k2 =>
    (X1_partyAt k2 a2).bind fun x7 =>
    Sum.elim (fun (v7 : Int32 × Cs) =>
      (some (uk k2 v7.2)).bind fun k7 =>
      (X1_partyAt k7 a3).bind fun x12 =>
      Sum.elim (fun (v12 : Int32 × Cs) =>
        (some (uk k7 v12.2)).bind fun k12 =>
        if a2 = a3 then
          X1_write_J46 k12 a1 a2 a3 a4 a5
        else
          (X1_in a4 (0 : Int32) (99 : Int32)).bind fun x25 =>
          if x25 = (0 : Int32) then
            X1_write_J46 k12 a1 a2 a3 a4 a5
          else
            (X1_in a5 (0 : Int32) (20 : Int32)).bind fun x36 =>
            if x36 = (0 : Int32) then
              X1_write_J46 k12 a1 a2 a3 a4 a5
            else
              X1_write_J47 k12 a1 a2 a3 a4 a5 (1 : Int32)) (fun (u : Nat × Cs) => some (.inr (u.1, uk k7 u.2))) x12) (fun (u : Nat × Cs) => some (.inr (u.1, uk k2 u.2))) x7) (fun (u : Nat × Cs) => some (.inr (u.1, uk τ u.2))) x2
set_option maxHeartbeats 4000000 in
theorem mX1_write (Λ : Nat → Nat → (Nat → Int32) → Int32) (Λn : Nat → Int32) (τ : Cs) (a1 : Int32) (a2 : Int32) (a3 : Int32) (a4 : Int32) (a5 : Int32) (out : Xo) (hf : X1_write τ a1 a2 a3 a4 a5 = some out) : CYi yX1_write cX1_write 6 (some .int) 21 1521 73 438 Λ Λn (fun o aK aF => [.ref o, .int a1, .int a2, .int a3, .int a4, .int a5]) out τ := by
  refine CYi.of (by decide) (fun _ _ _ => Nat.le_of_ble_eq_true rfl) ?_
  intro p l e s m args below meth c D J o z aK aV G Ld aF e0 mi Ur N Q ls hst hx hb hml hown hts hE hT hEU hret hxx hthr hI hl
  obtain ⟨H, eH⟩ : ∃ H, H = s.heap := ⟨_, rfl⟩
  obtain ⟨locs, eL⟩ : ∃ L : List Loc, L = [] := ⟨_, rfl⟩
  rw [← eH, ← eL] at hI ⊢
  have hown : s.vm.findClass RX1 = some m.cls := hown
  have hl : lv_has ls 6 [(0, .ref o), (1, .int a1), (2, .int a2), (3, .int a3), (4, .int a4), (5, .int a5)] := hl
  unfold X1_write at hf
  have hJ67 : ∀ (τ : Cs) (y0 : Int32) (H : Heap) (locs : List Loc) (ls : Array Slot), X1_write_J67 τ a1 a2 a3 a4 a5 y0 = some out → IU D J o Ld z G e0 Ur N s H locs τ → lv_has ls 6 [(0, .ref o), (1, .int a1), (2, .int a2), (3, .int a3), (4, .int a4), (5, .int a5)] → W p l e ({ frames := 21, cells := 73, slots := 438, locals := 1521 } : Room) s m args below meth c H locs 3 18 Q (F0 m 67 ls [.int y0]) := by
    intro τ y0 H locs ls hf hI hl
    unfold X1_write_J67 at hf
    obtain ⟨x67, ex67, hf⟩ := obd hf
    rcases x67 with _ | nx67
    rotate_left
    · replace hf := oelS hf
      exact uxcallS (rest := []) hx hb hts hst hown hE hT hI hml hl.1 (mX1_can y0 _ ex67) (csX1_can_X1 hts ⟨Nat.le_of_ble_eq_true rfl, Nat.le_of_ble_eq_true rfl⟩) ⟨Nat.le_of_ble_eq_true rfl, Nat.le_of_ble_eq_true rfl⟩ rfl rfl (lv_room (Nat.le_of_ble_eq_true rfl)) dX1_write_67 (fun E ce q9 n H locs ho hn hI h1 h2 h3 => by cases ho; exact hxx H locs 67 ls _ _ _ E ce q9 _ _ hI (Option.some.inj hf).symm hn h1 h2 h3 (Nat.le_of_ble_eq_true rfl) (Nat.le_of_ble_eq_true rfl)) (fun ho => by cases ho)
    replace hf := oelN hf
    refine tcallSv (rest := []) hx hb hts hown hml hl.1 (nX1_can y0 ex67) (dsX1_can_X1 hts ⟨Nat.le_of_ble_eq_true rfl, Nat.le_of_ble_eq_true rfl⟩) ⟨Nat.le_of_ble_eq_true rfl, Nat.le_of_ble_eq_true rfl⟩ rfl rfl (lv_room (Nat.le_of_ble_eq_true rfl)) dX1_write_67 ?_
    refine lv_aload_n hx hb dX1_write_70 rfl (lv_at hl 0 rfl) ?_
    obtain ⟨t71, et71, hf⟩ := obd hf
    refine uremem (rest := []) hx hb hts hown hE hT hEU hI hml hl.1 et71 ⟨Nat.le_of_ble_eq_true rfl, Nat.le_of_ble_eq_true rfl⟩ ⟨Nat.le_of_ble_eq_true rfl, Nat.le_of_ble_eq_true rfl⟩ (lv_room (Nat.le_of_ble_eq_true rfl)) dX1_write_71 (fun H locs hI => ?_)
    refine lv_aload_n hx hb dX1_write_74 rfl (lv_at hl 0 rfl) ?_
    refine gget hx hb hts in_X1 hown hE.1.1 (hI.1.o 0 rfl) rfl 0 (by decide) q463 rfl dX1_write_75 ?_
    refine lv_iload_n hx hb dX1_write_78 rfl (lv_at hl 1 rfl) ?_
    refine lv_iload_n hx hb dX1_write_79 rfl (lv_at hl 2 rfl) ?_
    refine lv_iload_n hx hb dX1_write_80 rfl (lv_at hl 3 rfl) ?_
    refine lv_iload hx hb dX1_write_81 (lv_at hl 4 rfl) ?_
    refine lv_iload hx hb dX1_write_83 (lv_at hl 5 rfl) ?_
    obtain ⟨x85, ex85, hf⟩ := obd hf
    obtain ⟨t85, et85, hf⟩ := obd hf
    refine ucworldV (rest := []) hx hb hts hown hE hI hml hl.1 (mX2_isWritten (cw t71 0) a1 a2 a3 a4 a5 _ ex85) (by decide) (cwX2_isWritten_X1 hts ⟨Nat.le_of_ble_eq_true rfl, Nat.le_of_ble_eq_true rfl⟩) et85 ⟨Nat.le_of_ble_eq_true rfl, Nat.le_of_ble_eq_true rfl⟩ rfl rfl (lv_room (Nat.le_of_ble_eq_true rfl)) dX1_write_85 (fun H locs hI => ?_)
    refine lv_aload_n hx hb dX1_write_88 rfl (lv_at hl 0 rfl) ?_
    refine gget hx hb hts in_X1 hown hE.1.1 (hI.1.o 0 rfl) rfl 0 (by decide) q463 rfl dX1_write_89 ?_
    refine ggetN hx hb hts in_X2 hown hE.1.1 (hI.1.w 0 (by decide) 0 rfl) rfl 3 (by decide) (hE.1.2.2.f 5 rfl) rfl dX1_write_92 ?_
    refine lv_iconst (v := (1 : Int32)) hx hb dX1_write_95 (by decide) ?_
    refine lv_isub hx hb dX1_write_96 ?_
    exact hret H locs 97 ls _ _ hI (Option.some.inj hf).symm dX1_write_97
  have hJ47 : ∀ (τ : Cs) (y0 : Int32) (H : Heap) (locs : List Loc) (ls : Array Slot), X1_write_J47 τ a1 a2 a3 a4 a5 y0 = some out → IU D J o Ld z G e0 Ur N s H locs τ → lv_has ls 6 [(0, .ref o), (1, .int a1), (2, .int a2), (3, .int a3), (4, .int a4), (5, .int a5)] → W p l e ({ frames := 21, cells := 73, slots := 438, locals := 1521 } : Room) s m args below meth c H locs 3 18 Q (F0 m 47 ls [.int y0]) := by
    intro τ y0 H locs ls hf hI hl
    unfold X1_write_J47 at hf
    obtain ⟨x47, ex47, hf⟩ := obd hf
    rcases x47 with _ | nx47
    rotate_left
    · replace hf := oelS hf
      exact uxcallS (rest := []) hx hb hts hst hown hE hT hI hml hl.1 (mX1_demand y0 _ ex47) (csX1_demand_X1 hts ⟨Nat.le_of_ble_eq_true rfl, Nat.le_of_ble_eq_true rfl⟩) ⟨Nat.le_of_ble_eq_true rfl, Nat.le_of_ble_eq_true rfl⟩ rfl rfl (lv_room (Nat.le_of_ble_eq_true rfl)) dX1_write_47 (fun E ce q9 n H locs ho hn hI h1 h2 h3 => by cases ho; exact hxx H locs 47 ls _ _ _ E ce q9 _ _ hI (Option.some.inj hf).symm hn h1 h2 h3 (Nat.le_of_ble_eq_true rfl) (Nat.le_of_ble_eq_true rfl)) (fun ho => by cases ho)
    replace hf := oelN hf
    refine tcallSv (rest := []) hx hb hts hown hml hl.1 (nX1_demand y0 ex47) (dsX1_demand_X1 hts ⟨Nat.le_of_ble_eq_true rfl, Nat.le_of_ble_eq_true rfl⟩) ⟨Nat.le_of_ble_eq_true rfl, Nat.le_of_ble_eq_true rfl⟩ rfl rfl (lv_room (Nat.le_of_ble_eq_true rfl)) dX1_write_47 ?_
    refine lv_aload_n hx hb dX1_write_50 rfl (lv_at hl 0 rfl) ?_
    refine gget hx hb hts in_X1 hown hE.1.1 (hI.1.o 0 rfl) rfl 0 (by decide) q463 rfl dX1_write_51 ?_
    refine ggetN hx hb hts in_X2 hown hE.1.1 (hI.1.w 0 (by decide) 0 rfl) rfl 3 (by decide) (hE.1.2.2.f 5 rfl) rfl dX1_write_54 ?_
    refine lv_bipush (v := (8 : Int32)) hx hb dX1_write_57 (by decide) ?_
    refine lv_icmp_ge (tgt := 66) hx hb dX1_write_59 (by decide) (fun hc => ?_) (fun hc => ?_)
    · replace hf := ipos hc hf
      refine lv_iconst (v := (0 : Int32)) hx hb dX1_write_66 (by decide) ?_
      exact hJ67 τ (0 : Int32) H locs ls hf hI  (lv_sub hl [0, 1, 2, 3, 4, 5] rfl)
    · replace hf := ineg hc hf
      refine lv_iconst (v := (1 : Int32)) hx hb dX1_write_62 (by decide) ?_
      refine lv_goto (tgt := 67) hx hb dX1_write_63 (by decide) ?_
      exact hJ67 τ (1 : Int32) H locs ls hf hI  (lv_sub hl [0, 1, 2, 3, 4, 5] rfl)
  have hJ46 : ∀ (τ : Cs) (H : Heap) (locs : List Loc) (ls : Array Slot), X1_write_J46 τ a1 a2 a3 a4 a5 = some out → IU D J o Ld z G e0 Ur N s H locs τ → lv_has ls 6 [(0, .ref o), (1, .int a1), (2, .int a2), (3, .int a3), (4, .int a4), (5, .int a5)] → W p l e ({ frames := 21, cells := 73, slots := 438, locals := 1521 } : Room) s m args below meth c H locs 3 18 Q (F0 m 46 ls []) := by
    intro τ  H locs ls hf hI hl
    unfold X1_write_J46 at hf
    refine lv_iconst (v := (0 : Int32)) hx hb dX1_write_46 (by decide) ?_
    exact hJ47 τ (0 : Int32) H locs ls hf hI  (lv_sub hl [0, 1, 2, 3, 4, 5] rfl)
  refine lv_aload_n hx hb dX1_write_0 rfl (lv_at hl 0 rfl) ?_
  refine lv_iload_n hx hb dX1_write_1 rfl (lv_at hl 1 rfl) ?_
  obtain ⟨x2, ex2, hf⟩ := obd hf
  refine uxcallV (rest := []) hx hb hts hst hown hE hT hI hml hl.1 (mX1_inkAt Λ Λn τ a1 _ ex2) (cwX1_inkAt_X1 hts ⟨Nat.le_of_ble_eq_true rfl, Nat.le_of_ble_eq_true rfl⟩) (hI.1.o 0 rfl) rfl rfl ⟨Nat.le_of_ble_eq_true rfl, Nat.le_of_ble_eq_true rfl⟩ rfl rfl (lv_room (Nat.le_of_ble_eq_true rfl)) dX1_write_2 (fun E ce q9 n σ' H locs ho hn hI h1 h2 h3 => by subst ho; have hf := selR hf; exact hxx H locs 2 ls _ _ _ E ce q9 n _ hI (Option.some.inj hf).symm hn h1 h2 h3 (Nat.le_of_ble_eq_true rfl) (Nat.le_of_ble_eq_true rfl)) (fun v2 H locs ho hI => ?_)
  subst ho
  replace hf := selL hf
  obtain ⟨k2, ek2, hf⟩ := obd hf
  rw [Option.some.inj ek2] at hI
  refine lv_aload_n hx hb dX1_write_5 rfl (lv_at hl 0 rfl) ?_
  refine lv_iload_n hx hb dX1_write_6 rfl (lv_at hl 2 rfl) ?_
  obtain ⟨x7, ex7, hf⟩ := obd hf
  refine uxcallV (rest := []) hx hb hts hst hown hE hT hI hml hl.1 (mX1_partyAt Λ Λn k2 a2 _ ex7) (cwX1_partyAt_X1 hts ⟨Nat.le_of_ble_eq_true rfl, Nat.le_of_ble_eq_true rfl⟩) (hI.1.o 0 rfl) rfl rfl ⟨Nat.le_of_ble_eq_true rfl, Nat.le_of_ble_eq_true rfl⟩ rfl rfl (lv_room (Nat.le_of_ble_eq_true rfl)) dX1_write_7 (fun E ce q9 n σ' H locs ho hn hI h1 h2 h3 => by subst ho; have hf := selR hf; exact hxx H locs 7 ls _ _ _ E ce q9 n _ hI (Option.some.inj hf).symm hn h1 h2 h3 (Nat.le_of_ble_eq_true rfl) (Nat.le_of_ble_eq_true rfl)) (fun v7 H locs ho hI => ?_)
  subst ho
  replace hf := selL hf
  obtain ⟨k7, ek7, hf⟩ := obd hf
  rw [Option.some.inj ek7] at hI
  refine lv_aload_n hx hb dX1_write_10 rfl (lv_at hl 0 rfl) ?_
  refine lv_iload_n hx hb dX1_write_11 rfl (lv_at hl 3 rfl) ?_
  obtain ⟨x12, ex12, hf⟩ := obd hf
  refine uxcallV (rest := []) hx hb hts hst hown hE hT hI hml hl.1 (mX1_partyAt Λ Λn k7 a3 _ ex12) (cwX1_partyAt_X1 hts ⟨Nat.le_of_ble_eq_true rfl, Nat.le_of_ble_eq_true rfl⟩) (hI.1.o 0 rfl) rfl rfl ⟨Nat.le_of_ble_eq_true rfl, Nat.le_of_ble_eq_true rfl⟩ rfl rfl (lv_room (Nat.le_of_ble_eq_true rfl)) dX1_write_12 (fun E ce q9 n σ' H locs ho hn hI h1 h2 h3 => by subst ho; have hf := selR hf; exact hxx H locs 12 ls _ _ _ E ce q9 n _ hI (Option.some.inj hf).symm hn h1 h2 h3 (Nat.le_of_ble_eq_true rfl) (Nat.le_of_ble_eq_true rfl)) (fun v12 H locs ho hI => ?_)
  subst ho
  replace hf := selL hf
  obtain ⟨k12, ek12, hf⟩ := obd hf
  rw [Option.some.inj ek12] at hI
  refine lv_iload_n hx hb dX1_write_15 rfl (lv_at hl 2 rfl) ?_
  refine lv_iload_n hx hb dX1_write_16 rfl (lv_at hl 3 rfl) ?_
  refine lv_icmp_eq (tgt := 46) hx hb dX1_write_17 (by decide) (fun hc => ?_) (fun hc => ?_)
  · replace hf := ipos hc hf
    exact hJ46 k12 H locs ls hf hI  (lv_sub hl [0, 1, 2, 3, 4, 5] rfl)
  · replace hf := ineg hc hf
    refine lv_iload hx hb dX1_write_20 (lv_at hl 4 rfl) ?_
    refine lv_iconst (v := (0 : Int32)) hx hb dX1_write_22 (by decide) ?_
    refine lv_bipush (v := (99 : Int32)) hx hb dX1_write_23 (by decide) ?_
    obtain ⟨x25, ex25, hf⟩ := obd hf
    refine tcallS (rest := []) hx hb hts hown hml hl.1 (mX1_in a4 (0 : Int32) (99 : Int32) _ ex25) (csX1_in_X1 hts ⟨Nat.le_of_ble_eq_true rfl, Nat.le_of_ble_eq_true rfl⟩) ⟨Nat.le_of_ble_eq_true rfl, Nat.le_of_ble_eq_true rfl⟩ rfl rfl (lv_room (Nat.le_of_ble_eq_true rfl)) dX1_write_25 ?_
    refine lv_if_eq (tgt := 46) hx hb dX1_write_28 (by decide) (fun hc => ?_) (fun hc => ?_)
    · replace hf := ipos hc hf
      exact hJ46 k12 H locs ls hf hI  (lv_sub hl [0, 1, 2, 3, 4, 5] rfl)
    · replace hf := ineg hc hf
      refine lv_iload hx hb dX1_write_31 (lv_at hl 5 rfl) ?_
      refine lv_iconst (v := (0 : Int32)) hx hb dX1_write_33 (by decide) ?_
      refine lv_bipush (v := (20 : Int32)) hx hb dX1_write_34 (by decide) ?_
      obtain ⟨x36, ex36, hf⟩ := obd hf
      refine tcallS (rest := []) hx hb hts hown hml hl.1 (mX1_in a5 (0 : Int32) (20 : Int32) _ ex36) (csX1_in_X1 hts ⟨Nat.le_of_ble_eq_true rfl, Nat.le_of_ble_eq_true rfl⟩) ⟨Nat.le_of_ble_eq_true rfl, Nat.le_of_ble_eq_true rfl⟩ rfl rfl (lv_room (Nat.le_of_ble_eq_true rfl)) dX1_write_36 ?_
      refine lv_if_eq (tgt := 46) hx hb dX1_write_39 (by decide) (fun hc => ?_) (fun hc => ?_)
      · replace hf := ipos hc hf
        exact hJ46 k12 H locs ls hf hI  (lv_sub hl [0, 1, 2, 3, 4, 5] rfl)
      · replace hf := ineg hc hf
        refine lv_iconst (v := (1 : Int32)) hx hb dX1_write_42 (by decide) ?_
        refine lv_goto (tgt := 47) hx hb dX1_write_43 (by decide) ?_
        exact hJ47 k12 (1 : Int32) H locs ls hf hI  (lv_sub hl [0, 1, 2, 3, 4, 5] rfl)

def X1_warm_L76 (Λ : Nat → Nat → (Nat → Int32) → Int32) (τ : Cs) (c2 : Int32) (w76 : Int32) : Option ((Int32) ⊕ ((Int32) ⊕ (Unit))) :=
  if (cw τ 0 0 3) ≤ w76 then
    some (.inr (.inr ()))
  else
    (ld 8 (cw τ 0 26) w76).bind fun x91 =>
    if x91 = (0 : Int32) then
      some (.inr (.inl w76))
    else
      (some (w76 + (1 : Int32))).bind fun v109 =>
      some (.inl v109)
def X1_warm_J48 (Λ : Nat → Nat → (Nat → Int32) → Int32) (τ : Cs) (a1 : Int32) (a2 : Int32) (x4 : Int32) (y0 : Int32) : Option (Xo) :=
  (X1_can y0).bind fun x48 =>
  Option.elim x48 (
  (X1_remembers τ).bind fun t52 =>
  (ld 6 (cw t52 0 10) a2).bind fun x61 =>
  (stof 6 (cw t52 0 10) a2 (x61 - x4)).bind fun g65 =>
  (some (cwu t52 0 (mset (cw t52 0) 10 g65))).bind fun t65 =>
  (X2_comesUp (cw t65 0) a1).bind fun x68 =>
  (some (cwu t65 0 x68)).bind fun t68 =>
  (some (a1 + (1 : Int32))).bind fun v74 =>
  (loopO (X1_warm_L76 Λ t68 a2) FU v74).bind fun e76 =>
  Sum.elim (fun e76 =>
    (ld 8 (cw t68 0 24) e76).bind fun x102 =>
    (stof 8 (cw t68 0 24) e76 (x102 / (2 : Int32))).bind fun g105 =>
    (some (cwu t68 0 (mset (cw t68 0) 24 g105))).bind fun t105 =>
    (ld 6 (cw t105 0 10) a2).bind fun x120 =>
    some (.inl (x120, t105))) (fun e76 =>
    (ld 6 (cw t68 0 10) a2).bind fun x120_15 =>
    some (.inl (x120_15, t68))) e76) fun n => some (.inr (n, τ))
def X1_warm_J47 (Λ : Nat → Nat → (Nat → Int32) → Int32) (τ : Cs) (a1 : Int32) (a2 : Int32) (x4 : Int32) : Option (Xo) :=
  X1_warm_J48 Λ τ a1 a2 x4 (0 : Int32)
def X1_warm (Λ : Nat → Nat → (Nat → Int32) → Int32) (τ : Cs) (a1 : Int32) (a2 : Int32) : Option Xo :=
  (X1_deedAt τ a1).bind fun x2 =>
  Sum.elim (fun (v2 : Int32 × Cs) =>
    (some (uk τ v2.2)).bind fun k2 =>
    (X1_partyAt k2 a2).bind fun x7 =>
    Sum.elim (fun (v7 : Int32 × Cs) =>
      (some (uk k2 v7.2)).bind fun k7 =>
      (X1_costsOf Λ k7 0 a1).bind fun x18 =>
      (some (uk k7 x18.2)).bind fun k18 =>
      (ld 8 (cw k18 0 26) a1).bind fun x28 =>
      if x28 = (0 : Int32) then
        (ld 6 (cw k18 0 10) a2).bind fun x37 =>
        if x37 < x18.1 then
          X1_warm_J47 Λ k18 a1 a2 x18.1
        else
          X1_warm_J48 Λ k18 a1 a2 x18.1 (1 : Int32)
      else
        X1_warm_J47 Λ k18 a1 a2 x18.1) (fun (u : Nat × Cs) => some (.inr (u.1, uk k2 u.2))) x7) (fun (u : Nat × Cs) => some (.inr (u.1, uk τ u.2))) x2
set_option maxHeartbeats 4000000 in
theorem mX1_warm (Λ : Nat → Nat → (Nat → Int32) → Int32) (Λn : Nat → Int32) (τ : Cs) (a1 : Int32) (a2 : Int32) (out : Xo) (hf : X1_warm Λ τ a1 a2 = some out) : CYi yX1_warm cX1_warm 6 (some .int) 62 3046 72 432 Λ Λn (fun o aK aF => [.ref o, .int a1, .int a2]) out τ := by
  refine CYi.of (by decide) (fun _ _ _ => Nat.le_of_ble_eq_true rfl) ?_
  intro p l e s m args below meth c D J o z aK aV G Ld aF e0 mi Ur N Q ls hst hx hb hml hown hts hE hT hEU hret hxx hthr hI hl
  obtain ⟨H, eH⟩ : ∃ H, H = s.heap := ⟨_, rfl⟩
  obtain ⟨locs, eL⟩ : ∃ L : List Loc, L = [] := ⟨_, rfl⟩
  rw [← eH, ← eL] at hI ⊢
  have hown : s.vm.findClass RX1 = some m.cls := hown
  have hl : lv_has ls 6 [(0, .ref o), (1, .int a1), (2, .int a2)] := hl
  unfold X1_warm at hf
  have hJ48 : ∀ (τ : Cs) (x4 : Int32) (y0 : Int32) (H : Heap) (locs : List Loc) (ls : Array Slot), X1_warm_J48 Λ τ a1 a2 x4 y0 = some out → IU D J o Ld z G e0 Ur N s H locs τ → lv_has ls 6 [(0, .ref o), (1, .int a1), (2, .int a2), (3, .ref (wA o 0)), (4, .int x4)] → W p l e ({ frames := 62, cells := 72, slots := 432, locals := 3046 } : Room) s m args below meth c H locs 2 12 Q (F0 m 48 ls [.int y0]) := by
    intro τ x4 y0 H locs ls hf hI hl
    unfold X1_warm_J48 at hf
    obtain ⟨x48, ex48, hf⟩ := obd hf
    rcases x48 with _ | nx48
    rotate_left
    · replace hf := oelS hf
      exact uxcallS (rest := []) hx hb hts hst hown hE hT hI hml hl.1 (mX1_can y0 _ ex48) (csX1_can_X1 hts ⟨Nat.le_of_ble_eq_true rfl, Nat.le_of_ble_eq_true rfl⟩) ⟨Nat.le_of_ble_eq_true rfl, Nat.le_of_ble_eq_true rfl⟩ rfl rfl (lv_room (Nat.le_of_ble_eq_true rfl)) dX1_warm_48 (fun E ce q9 n H locs ho hn hI h1 h2 h3 => by cases ho; exact hxx H locs 48 ls _ _ _ E ce q9 _ _ hI (Option.some.inj hf).symm hn h1 h2 h3 (Nat.le_of_ble_eq_true rfl) (Nat.le_of_ble_eq_true rfl)) (fun ho => by cases ho)
    replace hf := oelN hf
    refine tcallSv (rest := []) hx hb hts hown hml hl.1 (nX1_can y0 ex48) (dsX1_can_X1 hts ⟨Nat.le_of_ble_eq_true rfl, Nat.le_of_ble_eq_true rfl⟩) ⟨Nat.le_of_ble_eq_true rfl, Nat.le_of_ble_eq_true rfl⟩ rfl rfl (lv_room (Nat.le_of_ble_eq_true rfl)) dX1_warm_48 ?_
    refine lv_aload_n hx hb dX1_warm_51 rfl (lv_at hl 0 rfl) ?_
    obtain ⟨t52, et52, hf⟩ := obd hf
    refine uremem (rest := []) hx hb hts hown hE hT hEU hI hml hl.1 et52 ⟨Nat.le_of_ble_eq_true rfl, Nat.le_of_ble_eq_true rfl⟩ ⟨Nat.le_of_ble_eq_true rfl, Nat.le_of_ble_eq_true rfl⟩ (lv_room (Nat.le_of_ble_eq_true rfl)) dX1_warm_52 (fun H locs hI => ?_)
    refine lv_aload_n hx hb dX1_warm_55 rfl (lv_at hl 3 rfl) ?_
    refine ggetN hx hb hts in_X2 hown hE.1.1 (hI.1.w 0 (by decide) 0 rfl) rfl 10 (by decide) (hE.1.2.2.f 12 rfl) rfl dX1_warm_56 ?_
    refine lv_iload_n hx hb dX1_warm_59 rfl (lv_at hl 2 rfl) ?_
    refine lv_dup2_11 hx hb dX1_warm_60 rfl rfl ?_
    obtain ⟨x61, ex61, hf⟩ := obd hf
    refine gald hx hb hE.1.1 0 (hI.1.w 0 (by decide) 2 rfl) rfl ex61 dX1_warm_61 ?_
    refine lv_iload hx hb dX1_warm_62 (lv_at hl 4 rfl) ?_
    refine lv_isub hx hb dX1_warm_64 ?_
    obtain ⟨g65, eg65, hf⟩ := obd hf
    obtain ⟨t65, et65, hf⟩ := obd hf
    refine gast hx hb hE.1.1 0 (hI.1.w 0 (by decide) 2 rfl) rfl eg65 dX1_warm_65 (fun H locs h1 h2 h3 h4 => ?_)
    have hI := hI.putW (k := 0) (w' := mset (cw t52 0) 10 g65) (P := 2) (by decide) rfl rfl h1 h2 h3 h4
    rw [Option.some.inj et65] at hI
    refine lv_aload_n hx hb dX1_warm_66 rfl (lv_at hl 3 rfl) ?_
    refine lv_iload_n hx hb dX1_warm_67 rfl (lv_at hl 1 rfl) ?_
    obtain ⟨x68, ex68, hf⟩ := obd hf
    obtain ⟨t68, et68, hf⟩ := obd hf
    refine ucworldV (rest := []) hx hb hts hown hE hI hml hl.1 (mX2_comesUp (cw t65 0) a1 _ ex68) (by decide) (cwX2_comesUp_X1 hts ⟨Nat.le_of_ble_eq_true rfl, Nat.le_of_ble_eq_true rfl⟩) et68 ⟨Nat.le_of_ble_eq_true rfl, Nat.le_of_ble_eq_true rfl⟩ rfl rfl (lv_room (Nat.le_of_ble_eq_true rfl)) dX1_warm_68 (fun H locs hI => ?_)
    refine lv_iload_n hx hb dX1_warm_71 rfl (lv_at hl 1 rfl) ?_
    refine lv_iconst (v := (1 : Int32)) hx hb dX1_warm_72 (by decide) ?_
    refine lv_iadd hx hb dX1_warm_73 ?_
    obtain ⟨v74, ev74, hf⟩ := obd hf
    refine nmI ev74 ?_
    refine lv_istore (lv' := [(5, .int v74), (0, .ref o), (1, .int a1), (2, .int a2), (3, .ref (wA o 0)), (4, .int x4)]) hx hb dX1_warm_74 hl (by decide) rfl (fun ls hl => ?_)
    obtain ⟨e76, he76, hf⟩ := obd hf
    have hs76 : ∀ (τ : Cs) (c2 : Int32), ∀ (w76 : Int32) (o76 : (Int32) ⊕ ((Int32) ⊕ (Unit))), X1_warm_L76 Λ τ c2 w76 = some o76 → (∀ wx_, o76 = .inl wx_ → ∀ (H : Heap) (locs : List Loc) (ls : Array Slot), IU D J o Ld z G e0 Ur N s H locs τ → lv_has ls 6 [(2, .int c2), (3, .ref (wA o 0)), (5, .int wx_)] → W p l e ({ frames := 62, cells := 72, slots := 432, locals := 3046 } : Room) s m args below meth c H locs 72 432 Q (F0 m 76 ls [])) → (∀ ex_, o76 = .inr ex_ → Sum.elim (fun ex_ => ∀ (H : Heap) (locs : List Loc) (ls : Array Slot), IU D J o Ld z G e0 Ur N s H locs τ → lv_has ls 6 [(2, .int c2), (3, .ref (wA o 0)), (5, .int ex_)] → W p l e ({ frames := 62, cells := 72, slots := 432, locals := 3046 } : Room) s m args below meth c H locs 72 432 Q (F0 m 95 ls [])) (fun ex_ => ∀ (H : Heap) (locs : List Loc) (ls : Array Slot), IU D J o Ld z G e0 Ur N s H locs τ → lv_has ls 6 [(2, .int c2), (3, .ref (wA o 0))] → W p l e ({ frames := 62, cells := 72, slots := 432, locals := 3046 } : Room) s m args below meth c H locs 72 432 Q (F0 m 115 ls [])) ex_) → ∀ (H : Heap) (locs : List Loc) (ls : Array Slot), IU D J o Ld z G e0 Ur N s H locs τ → lv_has ls 6 [(2, .int c2), (3, .ref (wA o 0)), (5, .int w76)] → W p l e ({ frames := 62, cells := 72, slots := 432, locals := 3046 } : Room) s m args below meth c H locs 72 432 Q (F0 m 76 ls []) := by
      intro τ c2 w76 o76 hf hk hq H locs ls hI hl
      unfold X1_warm_L76 at hf
      refine lv_iload hx hb dX1_warm_76 (lv_at hl 2 rfl) ?_
      refine lv_aload_n hx hb dX1_warm_78 rfl (lv_at hl 1 rfl) ?_
      refine ggetN hx hb hts in_X2 hown hE.1.1 (hI.1.w 0 (by decide) 0 rfl) rfl 3 (by decide) (hE.1.2.2.f 5 rfl) rfl dX1_warm_79 ?_
      refine lv_icmp_ge (tgt := 115) hx hb dX1_warm_82 (by decide) (fun hc => ?_) (fun hc => ?_)
      · replace hf := ipos hc hf
        exact hq _ (Option.some.inj hf).symm H locs ls hI (lv_sub hl [0, 1] rfl)
      · replace hf := ineg hc hf
        refine lv_aload_n hx hb dX1_warm_85 rfl (lv_at hl 1 rfl) ?_
        refine ggetN hx hb hts in_X2 hown hE.1.1 (hI.1.w 0 (by decide) 0 rfl) rfl 26 (by decide) (hE.1.2.2.f 33 rfl) rfl dX1_warm_86 ?_
        refine lv_iload hx hb dX1_warm_89 (lv_at hl 2 rfl) ?_
        obtain ⟨x91, ex91, hf⟩ := obd hf
        refine gald hx hb hE.1.1 0 (hI.1.w 0 (by decide) 18 rfl) rfl ex91 dX1_warm_91 ?_
        refine lv_if_ne (tgt := 109) hx hb dX1_warm_92 (by decide) (fun hc => ?_) (fun hc => ?_)
        · replace hf := ineg hc hf
          obtain ⟨v109, ev109, hf⟩ := obd hf
          refine lv_iinc (v := v109) (lv' := [(5, .int v109), (2, .int c2), (3, .ref (wA o 0))]) hx hb dX1_warm_109 hl (k := 2) rfl (iiE ev109 (by decide)) (by decide) rfl (fun ls hl => ?_)
          refine lv_goto (tgt := 76) hx hb dX1_warm_112 (by decide) ?_
          exact hk _ (Option.some.inj hf).symm H locs ls hI (lv_sub hl [1, 2, 0] rfl)
        · replace hf := ipos hc hf
          exact hq _ (Option.some.inj hf).symm H locs ls hI (lv_sub hl [0, 1, 2] rfl)
    refine loopO_W (Wat := fun w76 => ∀ (H : Heap) (locs : List Loc) (ls : Array Slot), IU D J o Ld z G e0 Ur N s H locs t68 → lv_has ls 6 [(2, .int a2), (3, .ref (wA o 0)), (5, .int w76)] → W p l e ({ frames := 62, cells := 72, slots := 432, locals := 3046 } : Room) s m args below meth c H locs 72 432 Q (F0 m 76 ls [])) (Wex := fun ex_ => Sum.elim (fun ex_ => ∀ (H : Heap) (locs : List Loc) (ls : Array Slot), IU D J o Ld z G e0 Ur N s H locs t68 → lv_has ls 6 [(2, .int a2), (3, .ref (wA o 0)), (5, .int ex_)] → W p l e ({ frames := 62, cells := 72, slots := 432, locals := 3046 } : Room) s m args below meth c H locs 72 432 Q (F0 m 95 ls [])) (fun ex_ => ∀ (H : Heap) (locs : List Loc) (ls : Array Slot), IU D J o Ld z G e0 Ur N s H locs t68 → lv_has ls 6 [(2, .int a2), (3, .ref (wA o 0))] → W p l e ({ frames := 62, cells := 72, slots := 432, locals := 3046 } : Room) s m args below meth c H locs 72 432 Q (F0 m 115 ls [])) ex_) (hs76 t68 a2) FU _ e76 he76 ?_ H locs ls hI (lv_sub hl [3, 4, 0] rfl)
    · skip
      rcases e76 with e76 | e76
      · replace hf := sumL hf
        intro H locs ls hI hl
        refine lv_aload_n hx hb dX1_warm_95 rfl (lv_at hl 1 rfl) ?_
        refine ggetN hx hb hts in_X2 hown hE.1.1 (hI.1.w 0 (by decide) 0 rfl) rfl 24 (by decide) (hE.1.2.2.f 31 rfl) rfl dX1_warm_96 ?_
        refine lv_iload hx hb dX1_warm_99 (lv_at hl 2 rfl) ?_
        refine lv_dup2_11 hx hb dX1_warm_101 rfl rfl ?_
        obtain ⟨x102, ex102, hf⟩ := obd hf
        refine gald hx hb hE.1.1 0 (hI.1.w 0 (by decide) 16 rfl) rfl ex102 dX1_warm_102 ?_
        refine lv_iconst (v := (2 : Int32)) hx hb dX1_warm_103 (by decide) ?_
        refine lv_idiv hx hb dX1_warm_104 (by decide) ?_
        obtain ⟨g105, eg105, hf⟩ := obd hf
        obtain ⟨t105, et105, hf⟩ := obd hf
        refine gast hx hb hE.1.1 0 (hI.1.w 0 (by decide) 16 rfl) rfl eg105 dX1_warm_105 (fun H locs h1 h2 h3 h4 => ?_)
        have hI := hI.putW (k := 0) (w' := mset (cw t68 0) 24 g105) (P := 16) (by decide) rfl rfl h1 h2 h3 h4
        rw [Option.some.inj et105] at hI
        refine lv_goto (tgt := 115) hx hb dX1_warm_106 (by decide) ?_
        refine lv_aload_n hx hb dX1_warm_115 rfl (lv_at hl 1 rfl) ?_
        refine ggetN hx hb hts in_X2 hown hE.1.1 (hI.1.w 0 (by decide) 0 rfl) rfl 10 (by decide) (hE.1.2.2.f 12 rfl) rfl dX1_warm_116 ?_
        refine lv_iload_n hx hb dX1_warm_119 rfl (lv_at hl 0 rfl) ?_
        obtain ⟨x120, ex120, hf⟩ := obd hf
        refine gald hx hb hE.1.1 0 (hI.1.w 0 (by decide) 2 rfl) rfl ex120 dX1_warm_120 ?_
        exact hret H locs 121 ls _ _ hI (Option.some.inj hf).symm dX1_warm_121
      · replace hf := sumR hf
        intro H locs ls hI hl
        refine lv_aload_n hx hb dX1_warm_115 rfl (lv_at hl 1 rfl) ?_
        refine ggetN hx hb hts in_X2 hown hE.1.1 (hI.1.w 0 (by decide) 0 rfl) rfl 10 (by decide) (hE.1.2.2.f 12 rfl) rfl dX1_warm_116 ?_
        refine lv_iload_n hx hb dX1_warm_119 rfl (lv_at hl 0 rfl) ?_
        obtain ⟨x120_15, ex120_15, hf⟩ := obd hf
        refine gald hx hb hE.1.1 0 (hI.1.w 0 (by decide) 2 rfl) rfl ex120_15 dX1_warm_120 ?_
        exact hret H locs 121 ls _ _ hI (Option.some.inj hf).symm dX1_warm_121
  have hJ47 : ∀ (τ : Cs) (x4 : Int32) (H : Heap) (locs : List Loc) (ls : Array Slot), X1_warm_J47 Λ τ a1 a2 x4 = some out → IU D J o Ld z G e0 Ur N s H locs τ → lv_has ls 6 [(0, .ref o), (1, .int a1), (2, .int a2), (3, .ref (wA o 0)), (4, .int x4)] → W p l e ({ frames := 62, cells := 72, slots := 432, locals := 3046 } : Room) s m args below meth c H locs 2 12 Q (F0 m 47 ls []) := by
    intro τ x4 H locs ls hf hI hl
    unfold X1_warm_J47 at hf
    refine lv_iconst (v := (0 : Int32)) hx hb dX1_warm_47 (by decide) ?_
    exact hJ48 τ x4 (0 : Int32) H locs ls hf hI  (lv_sub hl [0, 1, 2, 3, 4] rfl)
  refine lv_aload_n hx hb dX1_warm_0 rfl (lv_at hl 0 rfl) ?_
  refine lv_iload_n hx hb dX1_warm_1 rfl (lv_at hl 1 rfl) ?_
  obtain ⟨x2, ex2, hf⟩ := obd hf
  refine uxcallV (rest := []) hx hb hts hst hown hE hT hI hml hl.1 (mX1_deedAt Λ Λn τ a1 _ ex2) (cwX1_deedAt_X1 hts ⟨Nat.le_of_ble_eq_true rfl, Nat.le_of_ble_eq_true rfl⟩) (hI.1.o 0 rfl) rfl rfl ⟨Nat.le_of_ble_eq_true rfl, Nat.le_of_ble_eq_true rfl⟩ rfl rfl (lv_room (Nat.le_of_ble_eq_true rfl)) dX1_warm_2 (fun E ce q9 n σ' H locs ho hn hI h1 h2 h3 => by subst ho; have hf := selR hf; exact hxx H locs 2 ls _ _ _ E ce q9 n _ hI (Option.some.inj hf).symm hn h1 h2 h3 (Nat.le_of_ble_eq_true rfl) (Nat.le_of_ble_eq_true rfl)) (fun v2 H locs ho hI => ?_)
  subst ho
  replace hf := selL hf
  obtain ⟨k2, ek2, hf⟩ := obd hf
  rw [Option.some.inj ek2] at hI
  refine lv_aload_n hx hb dX1_warm_5 rfl (lv_at hl 0 rfl) ?_
  refine lv_iload_n hx hb dX1_warm_6 rfl (lv_at hl 2 rfl) ?_
  obtain ⟨x7, ex7, hf⟩ := obd hf
  refine uxcallV (rest := []) hx hb hts hst hown hE hT hI hml hl.1 (mX1_partyAt Λ Λn k2 a2 _ ex7) (cwX1_partyAt_X1 hts ⟨Nat.le_of_ble_eq_true rfl, Nat.le_of_ble_eq_true rfl⟩) (hI.1.o 0 rfl) rfl rfl ⟨Nat.le_of_ble_eq_true rfl, Nat.le_of_ble_eq_true rfl⟩ rfl rfl (lv_room (Nat.le_of_ble_eq_true rfl)) dX1_warm_7 (fun E ce q9 n σ' H locs ho hn hI h1 h2 h3 => by subst ho; have hf := selR hf; exact hxx H locs 7 ls _ _ _ E ce q9 n _ hI (Option.some.inj hf).symm hn h1 h2 h3 (Nat.le_of_ble_eq_true rfl) (Nat.le_of_ble_eq_true rfl)) (fun v7 H locs ho hI => ?_)
  subst ho
  replace hf := selL hf
  obtain ⟨k7, ek7, hf⟩ := obd hf
  rw [Option.some.inj ek7] at hI
  refine lv_aload_n hx hb dX1_warm_10 rfl (lv_at hl 0 rfl) ?_
  refine gget hx hb hts in_X1 hown hE.1.1 (hI.1.o 0 rfl) rfl 0 (by decide) q463 rfl dX1_warm_11 ?_
  refine lv_astore_n (lv' := [(3, .ref (wA o 0)), (0, .ref o), (1, .int a1), (2, .int a2)]) hx hb dX1_warm_14 rfl hl (by decide) rfl (fun ls hl => ?_)
  refine lv_aload_n hx hb dX1_warm_15 rfl (lv_at hl 1 rfl) ?_
  refine lv_aload_n hx hb dX1_warm_16 rfl (lv_at hl 0 rfl) ?_
  refine lv_iload_n hx hb dX1_warm_17 rfl (lv_at hl 2 rfl) ?_
  obtain ⟨x18, ex18, hf⟩ := obd hf
  refine uccallI (rest := []) hx hb hts hown hE hI hml hl.1 (mX1_costsOf Λ Λn k7 0 a1 (by decide) _ _ ex18) (cwX1_costsOf_X1 hts ⟨Nat.le_of_ble_eq_true rfl, Nat.le_of_ble_eq_true rfl⟩) (hI.1.o 0 rfl) rfl rfl ⟨Nat.le_of_ble_eq_true rfl, Nat.le_of_ble_eq_true rfl⟩ rfl rfl (lv_room (Nat.le_of_ble_eq_true rfl)) dX1_warm_18 (fun H locs hI => ?_)
  obtain ⟨k18, ek18, hf⟩ := obd hf
  rw [Option.some.inj ek18] at hI
  refine lv_istore (lv' := [(4, .int x18.1), (3, .ref (wA o 0)), (0, .ref o), (1, .int a1), (2, .int a2)]) hx hb dX1_warm_21 hl (by decide) rfl (fun ls hl => ?_)
  refine lv_aload_n hx hb dX1_warm_23 rfl (lv_at hl 1 rfl) ?_
  refine ggetN hx hb hts in_X2 hown hE.1.1 (hI.1.w 0 (by decide) 0 rfl) rfl 26 (by decide) (hE.1.2.2.f 33 rfl) rfl dX1_warm_24 ?_
  refine lv_iload_n hx hb dX1_warm_27 rfl (lv_at hl 3 rfl) ?_
  obtain ⟨x28, ex28, hf⟩ := obd hf
  refine gald hx hb hE.1.1 0 (hI.1.w 0 (by decide) 18 rfl) rfl ex28 dX1_warm_28 ?_
  refine lv_if_ne (tgt := 47) hx hb dX1_warm_29 (by decide) (fun hc => ?_) (fun hc => ?_)
  · replace hf := ineg hc hf
    exact hJ47 k18 x18.1 H locs ls hf hI  (lv_sub hl [2, 3, 4, 1, 0] rfl)
  · replace hf := ipos hc hf
    refine lv_aload_n hx hb dX1_warm_32 rfl (lv_at hl 1 rfl) ?_
    refine ggetN hx hb hts in_X2 hown hE.1.1 (hI.1.w 0 (by decide) 0 rfl) rfl 10 (by decide) (hE.1.2.2.f 12 rfl) rfl dX1_warm_33 ?_
    refine lv_iload_n hx hb dX1_warm_36 rfl (lv_at hl 4 rfl) ?_
    obtain ⟨x37, ex37, hf⟩ := obd hf
    refine gald hx hb hE.1.1 0 (hI.1.w 0 (by decide) 2 rfl) rfl ex37 dX1_warm_37 ?_
    refine lv_iload hx hb dX1_warm_38 (lv_at hl 0 rfl) ?_
    refine lv_icmp_lt (tgt := 47) hx hb dX1_warm_40 (by decide) (fun hc => ?_) (fun hc => ?_)
    · replace hf := ipos hc hf
      exact hJ47 k18 x18.1 H locs ls hf hI  (lv_sub hl [2, 3, 4, 1, 0] rfl)
    · replace hf := ineg hc hf
      refine lv_iconst (v := (1 : Int32)) hx hb dX1_warm_43 (by decide) ?_
      refine lv_goto (tgt := 48) hx hb dX1_warm_44 (by decide) ?_
      exact hJ48 k18 x18.1 (1 : Int32) H locs ls hf hI  (lv_sub hl [2, 3, 4, 1, 0] rfl)

theorem cwX2_tells_X1 {R : Room} {s : State} {args : Array Value} {fr lo : Nat} (hts : ∀ w ∈ lw_all, w.before args s = true) (hR : fr + 1 ≤ R.frames ∧ 8 + (4 + 11) + lo ≤ R.locals) : CallW R s args RX1 RX2 548 yX2_tells cX2_tells 4 (none) (ws_ yX2_tells cX2_tells 4 (none)) ({ frames := fr, cells := 0, slots := 0, locals := lo }) 0 0 3 :=
  cwV 3 hts (lw_V q1833 q689 q690 q134 q691) rfl rfl rfl (by decide +kernel) hR
def X1_burn_J25 (τ : Cs) (a1 : Int32) (x2 : Int32) (y0 : Int32) : Option (Xo) :=
  (X1_can y0).bind fun x25 =>
  Option.elim x25 (
  (X1_remembers τ).bind fun t29 =>
  (stof 8 (cw t29 0 26) a1 (3 : Int32)).bind fun g41 =>
  (some (cwu t29 0 (mset (cw t29 0) 26 g41))).bind fun t41 =>
  (X2_tells (cw t41 0) a1 (4 : Int32) (0 : Int32)).bind fun x49 =>
  (some (cwu t41 0 x49)).bind fun t49 =>
  some (.inl (x2, t49))) fun n => some (.inr (n, τ))
def X1_burn (τ : Cs) (a1 : Int32) : Option Xo :=
  (X1_deedAt τ a1).bind fun x2 =>
  Sum.elim (fun (v2 : Int32 × Cs) =>
    (some (uk τ v2.2)).bind fun k2 =>
    (ld 8 (cw k2 0 26) a1).bind fun x13 =>
    if x13 = (3 : Int32) then
      X1_burn_J25 k2 a1 x13 (0 : Int32)
    else
      X1_burn_J25 k2 a1 x13 (1 : Int32)) (fun (u : Nat × Cs) => some (.inr (u.1, uk τ u.2))) x2
set_option maxHeartbeats 4000000 in
theorem mX1_burn (Λ : Nat → Nat → (Nat → Int32) → Int32) (Λn : Nat → Int32) (τ : Cs) (a1 : Int32) (out : Xo) (hf : X1_burn τ a1 = some out) : CYi yX1_burn cX1_burn 3 (some .int) 21 1521 71 426 Λ Λn (fun o aK aF => [.ref o, .int a1]) out τ := by
  refine CYi.of (by decide) (fun _ _ _ => Nat.le_of_ble_eq_true rfl) ?_
  intro p l e s m args below meth c D J o z aK aV G Ld aF e0 mi Ur N Q ls hst hx hb hml hown hts hE hT hEU hret hxx hthr hI hl
  obtain ⟨H, eH⟩ : ∃ H, H = s.heap := ⟨_, rfl⟩
  obtain ⟨locs, eL⟩ : ∃ L : List Loc, L = [] := ⟨_, rfl⟩
  rw [← eH, ← eL] at hI ⊢
  have hown : s.vm.findClass RX1 = some m.cls := hown
  have hl : lv_has ls 3 [(0, .ref o), (1, .int a1)] := hl
  unfold X1_burn at hf
  have hJ25 : ∀ (τ : Cs) (x2 : Int32) (y0 : Int32) (H : Heap) (locs : List Loc) (ls : Array Slot), X1_burn_J25 τ a1 x2 y0 = some out → IU D J o Ld z G e0 Ur N s H locs τ → lv_has ls 3 [(0, .ref o), (1, .int a1), (2, .int x2)] → W p l e ({ frames := 21, cells := 71, slots := 426, locals := 1521 } : Room) s m args below meth c H locs 1 6 Q (F0 m 25 ls [.int y0]) := by
    intro τ x2 y0 H locs ls hf hI hl
    unfold X1_burn_J25 at hf
    obtain ⟨x25, ex25, hf⟩ := obd hf
    rcases x25 with _ | nx25
    rotate_left
    · replace hf := oelS hf
      exact uxcallS (rest := []) hx hb hts hst hown hE hT hI hml hl.1 (mX1_can y0 _ ex25) (csX1_can_X1 hts ⟨Nat.le_of_ble_eq_true rfl, Nat.le_of_ble_eq_true rfl⟩) ⟨Nat.le_of_ble_eq_true rfl, Nat.le_of_ble_eq_true rfl⟩ rfl rfl (lv_room (Nat.le_of_ble_eq_true rfl)) dX1_burn_25 (fun E ce q9 n H locs ho hn hI h1 h2 h3 => by cases ho; exact hxx H locs 25 ls _ _ _ E ce q9 _ _ hI (Option.some.inj hf).symm hn h1 h2 h3 (Nat.le_of_ble_eq_true rfl) (Nat.le_of_ble_eq_true rfl)) (fun ho => by cases ho)
    replace hf := oelN hf
    refine tcallSv (rest := []) hx hb hts hown hml hl.1 (nX1_can y0 ex25) (dsX1_can_X1 hts ⟨Nat.le_of_ble_eq_true rfl, Nat.le_of_ble_eq_true rfl⟩) ⟨Nat.le_of_ble_eq_true rfl, Nat.le_of_ble_eq_true rfl⟩ rfl rfl (lv_room (Nat.le_of_ble_eq_true rfl)) dX1_burn_25 ?_
    refine lv_aload_n hx hb dX1_burn_28 rfl (lv_at hl 0 rfl) ?_
    obtain ⟨t29, et29, hf⟩ := obd hf
    refine uremem (rest := []) hx hb hts hown hE hT hEU hI hml hl.1 et29 ⟨Nat.le_of_ble_eq_true rfl, Nat.le_of_ble_eq_true rfl⟩ ⟨Nat.le_of_ble_eq_true rfl, Nat.le_of_ble_eq_true rfl⟩ (lv_room (Nat.le_of_ble_eq_true rfl)) dX1_burn_29 (fun H locs hI => ?_)
    refine lv_aload_n hx hb dX1_burn_32 rfl (lv_at hl 0 rfl) ?_
    refine gget hx hb hts in_X1 hown hE.1.1 (hI.1.o 0 rfl) rfl 0 (by decide) q463 rfl dX1_burn_33 ?_
    refine ggetN hx hb hts in_X2 hown hE.1.1 (hI.1.w 0 (by decide) 0 rfl) rfl 26 (by decide) (hE.1.2.2.f 33 rfl) rfl dX1_burn_36 ?_
    refine lv_iload_n hx hb dX1_burn_39 rfl (lv_at hl 1 rfl) ?_
    refine lv_iconst (v := (3 : Int32)) hx hb dX1_burn_40 (by decide) ?_
    obtain ⟨g41, eg41, hf⟩ := obd hf
    obtain ⟨t41, et41, hf⟩ := obd hf
    refine gast hx hb hE.1.1 0 (hI.1.w 0 (by decide) 18 rfl) rfl eg41 dX1_burn_41 (fun H locs h1 h2 h3 h4 => ?_)
    have hI := hI.putW (k := 0) (w' := mset (cw t29 0) 26 g41) (P := 18) (by decide) rfl rfl h1 h2 h3 h4
    rw [Option.some.inj et41] at hI
    refine lv_aload_n hx hb dX1_burn_42 rfl (lv_at hl 0 rfl) ?_
    refine gget hx hb hts in_X1 hown hE.1.1 (hI.1.o 0 rfl) rfl 0 (by decide) q463 rfl dX1_burn_43 ?_
    refine lv_iload_n hx hb dX1_burn_46 rfl (lv_at hl 1 rfl) ?_
    refine lv_iconst (v := (4 : Int32)) hx hb dX1_burn_47 (by decide) ?_
    refine lv_iconst (v := (0 : Int32)) hx hb dX1_burn_48 (by decide) ?_
    obtain ⟨x49, ex49, hf⟩ := obd hf
    obtain ⟨t49, et49, hf⟩ := obd hf
    refine ucworldV (rest := []) hx hb hts hown hE hI hml hl.1 (mX2_tells (cw t41 0) a1 (4 : Int32) (0 : Int32) _ ex49) (by decide) (cwX2_tells_X1 hts ⟨Nat.le_of_ble_eq_true rfl, Nat.le_of_ble_eq_true rfl⟩) et49 ⟨Nat.le_of_ble_eq_true rfl, Nat.le_of_ble_eq_true rfl⟩ rfl rfl (lv_room (Nat.le_of_ble_eq_true rfl)) dX1_burn_49 (fun H locs hI => ?_)
    refine lv_iload_n hx hb dX1_burn_52 rfl (lv_at hl 2 rfl) ?_
    exact hret H locs 53 ls _ _ hI (Option.some.inj hf).symm dX1_burn_53
  refine lv_aload_n hx hb dX1_burn_0 rfl (lv_at hl 0 rfl) ?_
  refine lv_iload_n hx hb dX1_burn_1 rfl (lv_at hl 1 rfl) ?_
  obtain ⟨x2, ex2, hf⟩ := obd hf
  refine uxcallV (rest := []) hx hb hts hst hown hE hT hI hml hl.1 (mX1_deedAt Λ Λn τ a1 _ ex2) (cwX1_deedAt_X1 hts ⟨Nat.le_of_ble_eq_true rfl, Nat.le_of_ble_eq_true rfl⟩) (hI.1.o 0 rfl) rfl rfl ⟨Nat.le_of_ble_eq_true rfl, Nat.le_of_ble_eq_true rfl⟩ rfl rfl (lv_room (Nat.le_of_ble_eq_true rfl)) dX1_burn_2 (fun E ce q9 n σ' H locs ho hn hI h1 h2 h3 => by subst ho; have hf := selR hf; exact hxx H locs 2 ls _ _ _ E ce q9 n _ hI (Option.some.inj hf).symm hn h1 h2 h3 (Nat.le_of_ble_eq_true rfl) (Nat.le_of_ble_eq_true rfl)) (fun v2 H locs ho hI => ?_)
  subst ho
  replace hf := selL hf
  obtain ⟨k2, ek2, hf⟩ := obd hf
  rw [Option.some.inj ek2] at hI
  refine lv_aload_n hx hb dX1_burn_5 rfl (lv_at hl 0 rfl) ?_
  refine gget hx hb hts in_X1 hown hE.1.1 (hI.1.o 0 rfl) rfl 0 (by decide) q463 rfl dX1_burn_6 ?_
  refine ggetN hx hb hts in_X2 hown hE.1.1 (hI.1.w 0 (by decide) 0 rfl) rfl 26 (by decide) (hE.1.2.2.f 33 rfl) rfl dX1_burn_9 ?_
  refine lv_iload_n hx hb dX1_burn_12 rfl (lv_at hl 1 rfl) ?_
  obtain ⟨x13, ex13, hf⟩ := obd hf
  refine gald hx hb hE.1.1 0 (hI.1.w 0 (by decide) 18 rfl) rfl ex13 dX1_burn_13 ?_
  refine lv_istore_n (lv' := [(2, .int x13), (0, .ref o), (1, .int a1)]) hx hb dX1_burn_14 rfl hl (by decide) rfl (fun ls hl => ?_)
  refine lv_iload_n hx hb dX1_burn_15 rfl (lv_at hl 0 rfl) ?_
  refine lv_iconst (v := (3 : Int32)) hx hb dX1_burn_16 (by decide) ?_
  refine lv_icmp_eq (tgt := 24) hx hb dX1_burn_17 (by decide) (fun hc => ?_) (fun hc => ?_)
  · replace hf := ipos hc hf
    refine lv_iconst (v := (0 : Int32)) hx hb dX1_burn_24 (by decide) ?_
    exact hJ25 k2 x13 (0 : Int32) H locs ls hf hI  (lv_sub hl [1, 2, 0] rfl)
  · replace hf := ineg hc hf
    refine lv_iconst (v := (1 : Int32)) hx hb dX1_burn_20 (by decide) ?_
    refine lv_goto (tgt := 25) hx hb dX1_burn_21 (by decide) ?_
    exact hJ25 k2 x13 (1 : Int32) H locs ls hf hI  (lv_sub hl [1, 2, 0] rfl)

def X1_lend_J71 (τ : Cs) (a1 : Int32) (a2 : Int32) (a3 : Int32) (y0 : Int32) : Option (Xo) :=
  (X1_can y0).bind fun x71 =>
  Option.elim x71 (
  (X1_remembers τ).bind fun t75 =>
  (ld 6 (cw t75 0 10) a1).bind fun x85 =>
  (stof 6 (cw t75 0 10) a1 (x85 - a3)).bind fun g88 =>
  (some (cwu t75 0 (mset (cw t75 0) 10 g88))).bind fun t88 =>
  (ld 6 (cw t88 0 10) a2).bind fun x96 =>
  (stof 6 (cw t88 0 10) a2 (x96 + a3)).bind fun g99 =>
  (some (cwu t88 0 (mset (cw t88 0) 10 g99))).bind fun t99 =>
  (ld 6 (cw t99 0 10) a1).bind fun x106 =>
  some (.inl (x106, t99))) fun n => some (.inr (n, τ))
def X1_lend_J70 (τ : Cs) (a1 : Int32) (a2 : Int32) (a3 : Int32) : Option (Xo) :=
  X1_lend_J71 τ a1 a2 a3 (0 : Int32)
def X1_lend_J31 (τ : Cs) (a1 : Int32) (a2 : Int32) (a3 : Int32) (y0 : Int32) : Option (Xo) :=
  (X1_demand y0).bind fun x31 =>
  Option.elim x31 (
  (ld 6 (cw τ 0 10) a1).bind fun x46 =>
  if x46 < a3 then
    X1_lend_J70 τ a1 a2 a3
  else
    (ld 6 (cw τ 0 10) a2).bind fun x57 =>
    if (9999 : Int32) < (x57 + a3) then
      X1_lend_J70 τ a1 a2 a3
    else
      X1_lend_J71 τ a1 a2 a3 (1 : Int32)) fun n => some (.inr (n, τ))
def X1_lend_J30 (τ : Cs) (a1 : Int32) (a2 : Int32) (a3 : Int32) : Option (Xo) :=
  X1_lend_J31 τ a1 a2 a3 (0 : Int32)
def X1_lend (τ : Cs) (a1 : Int32) (a2 : Int32) (a3 : Int32) : Option Xo :=
  (X1_partyAt τ a1).bind fun x2 =>
  Sum.elim (fun (v2 : Int32 × Cs) =>
    (some (uk τ v2.2)).bind fun k2 =>
    (X1_partyAt k2 a2).bind fun x7 =>
    Sum.elim (fun (v7 : Int32 × Cs) =>
      (some (uk k2 v7.2)).bind fun k7 =>
      if a1 = a2 then
        X1_lend_J30 k7 a1 a2 a3
      else
        (X1_in a3 (1 : Int32) (999 : Int32)).bind fun x20 =>
        if x20 = (0 : Int32) then
          X1_lend_J30 k7 a1 a2 a3
        else
          X1_lend_J31 k7 a1 a2 a3 (1 : Int32)) (fun (u : Nat × Cs) => some (.inr (u.1, uk k2 u.2))) x7) (fun (u : Nat × Cs) => some (.inr (u.1, uk τ u.2))) x2
set_option maxHeartbeats 4000000 in
theorem mX1_lend (Λ : Nat → Nat → (Nat → Int32) → Int32) (Λn : Nat → Int32) (τ : Cs) (a1 : Int32) (a2 : Int32) (a3 : Int32) (out : Xo) (hf : X1_lend τ a1 a2 a3 = some out) : CYi yX1_lend cX1_lend 5 (some .int) 21 1521 72 432 Λ Λn (fun o aK aF => [.ref o, .int a1, .int a2, .int a3]) out τ := by
  refine CYi.of (by decide) (fun _ _ _ => Nat.le_of_ble_eq_true rfl) ?_
  intro p l e s m args below meth c D J o z aK aV G Ld aF e0 mi Ur N Q ls hst hx hb hml hown hts hE hT hEU hret hxx hthr hI hl
  obtain ⟨H, eH⟩ : ∃ H, H = s.heap := ⟨_, rfl⟩
  obtain ⟨locs, eL⟩ : ∃ L : List Loc, L = [] := ⟨_, rfl⟩
  rw [← eH, ← eL] at hI ⊢
  have hown : s.vm.findClass RX1 = some m.cls := hown
  have hl : lv_has ls 5 [(0, .ref o), (1, .int a1), (2, .int a2), (3, .int a3)] := hl
  unfold X1_lend at hf
  have hJ71 : ∀ (τ : Cs) (y0 : Int32) (H : Heap) (locs : List Loc) (ls : Array Slot), X1_lend_J71 τ a1 a2 a3 y0 = some out → IU D J o Ld z G e0 Ur N s H locs τ → lv_has ls 5 [(0, .ref o), (1, .int a1), (2, .int a2), (3, .int a3), (4, .ref (wA o 0))] → W p l e ({ frames := 21, cells := 72, slots := 432, locals := 1521 } : Room) s m args below meth c H locs 2 12 Q (F0 m 71 ls [.int y0]) := by
    intro τ y0 H locs ls hf hI hl
    unfold X1_lend_J71 at hf
    obtain ⟨x71, ex71, hf⟩ := obd hf
    rcases x71 with _ | nx71
    rotate_left
    · replace hf := oelS hf
      exact uxcallS (rest := []) hx hb hts hst hown hE hT hI hml hl.1 (mX1_can y0 _ ex71) (csX1_can_X1 hts ⟨Nat.le_of_ble_eq_true rfl, Nat.le_of_ble_eq_true rfl⟩) ⟨Nat.le_of_ble_eq_true rfl, Nat.le_of_ble_eq_true rfl⟩ rfl rfl (lv_room (Nat.le_of_ble_eq_true rfl)) dX1_lend_71 (fun E ce q9 n H locs ho hn hI h1 h2 h3 => by cases ho; exact hxx H locs 71 ls _ _ _ E ce q9 _ _ hI (Option.some.inj hf).symm hn h1 h2 h3 (Nat.le_of_ble_eq_true rfl) (Nat.le_of_ble_eq_true rfl)) (fun ho => by cases ho)
    replace hf := oelN hf
    refine tcallSv (rest := []) hx hb hts hown hml hl.1 (nX1_can y0 ex71) (dsX1_can_X1 hts ⟨Nat.le_of_ble_eq_true rfl, Nat.le_of_ble_eq_true rfl⟩) ⟨Nat.le_of_ble_eq_true rfl, Nat.le_of_ble_eq_true rfl⟩ rfl rfl (lv_room (Nat.le_of_ble_eq_true rfl)) dX1_lend_71 ?_
    refine lv_aload_n hx hb dX1_lend_74 rfl (lv_at hl 0 rfl) ?_
    obtain ⟨t75, et75, hf⟩ := obd hf
    refine uremem (rest := []) hx hb hts hown hE hT hEU hI hml hl.1 et75 ⟨Nat.le_of_ble_eq_true rfl, Nat.le_of_ble_eq_true rfl⟩ ⟨Nat.le_of_ble_eq_true rfl, Nat.le_of_ble_eq_true rfl⟩ (lv_room (Nat.le_of_ble_eq_true rfl)) dX1_lend_75 (fun H locs hI => ?_)
    refine lv_aload hx hb dX1_lend_78 (lv_at hl 4 rfl) ?_
    refine ggetN hx hb hts in_X2 hown hE.1.1 (hI.1.w 0 (by decide) 0 rfl) rfl 10 (by decide) (hE.1.2.2.f 12 rfl) rfl dX1_lend_80 ?_
    refine lv_iload_n hx hb dX1_lend_83 rfl (lv_at hl 1 rfl) ?_
    refine lv_dup2_11 hx hb dX1_lend_84 rfl rfl ?_
    obtain ⟨x85, ex85, hf⟩ := obd hf
    refine gald hx hb hE.1.1 0 (hI.1.w 0 (by decide) 2 rfl) rfl ex85 dX1_lend_85 ?_
    refine lv_iload_n hx hb dX1_lend_86 rfl (lv_at hl 3 rfl) ?_
    refine lv_isub hx hb dX1_lend_87 ?_
    obtain ⟨g88, eg88, hf⟩ := obd hf
    obtain ⟨t88, et88, hf⟩ := obd hf
    refine gast hx hb hE.1.1 0 (hI.1.w 0 (by decide) 2 rfl) rfl eg88 dX1_lend_88 (fun H locs h1 h2 h3 h4 => ?_)
    have hI := hI.putW (k := 0) (w' := mset (cw t75 0) 10 g88) (P := 2) (by decide) rfl rfl h1 h2 h3 h4
    rw [Option.some.inj et88] at hI
    refine lv_aload hx hb dX1_lend_89 (lv_at hl 4 rfl) ?_
    refine ggetN hx hb hts in_X2 hown hE.1.1 (hI.1.w 0 (by decide) 0 rfl) rfl 10 (by decide) (hE.1.2.2.f 12 rfl) rfl dX1_lend_91 ?_
    refine lv_iload_n hx hb dX1_lend_94 rfl (lv_at hl 2 rfl) ?_
    refine lv_dup2_11 hx hb dX1_lend_95 rfl rfl ?_
    obtain ⟨x96, ex96, hf⟩ := obd hf
    refine gald hx hb hE.1.1 0 (hI.1.w 0 (by decide) 2 rfl) rfl ex96 dX1_lend_96 ?_
    refine lv_iload_n hx hb dX1_lend_97 rfl (lv_at hl 3 rfl) ?_
    refine lv_iadd hx hb dX1_lend_98 ?_
    obtain ⟨g99, eg99, hf⟩ := obd hf
    obtain ⟨t99, et99, hf⟩ := obd hf
    refine gast hx hb hE.1.1 0 (hI.1.w 0 (by decide) 2 rfl) rfl eg99 dX1_lend_99 (fun H locs h1 h2 h3 h4 => ?_)
    have hI := hI.putW (k := 0) (w' := mset (cw t88 0) 10 g99) (P := 2) (by decide) rfl rfl h1 h2 h3 h4
    rw [Option.some.inj et99] at hI
    refine lv_aload hx hb dX1_lend_100 (lv_at hl 4 rfl) ?_
    refine ggetN hx hb hts in_X2 hown hE.1.1 (hI.1.w 0 (by decide) 0 rfl) rfl 10 (by decide) (hE.1.2.2.f 12 rfl) rfl dX1_lend_102 ?_
    refine lv_iload_n hx hb dX1_lend_105 rfl (lv_at hl 1 rfl) ?_
    obtain ⟨x106, ex106, hf⟩ := obd hf
    refine gald hx hb hE.1.1 0 (hI.1.w 0 (by decide) 2 rfl) rfl ex106 dX1_lend_106 ?_
    exact hret H locs 107 ls _ _ hI (Option.some.inj hf).symm dX1_lend_107
  have hJ70 : ∀ (τ : Cs) (H : Heap) (locs : List Loc) (ls : Array Slot), X1_lend_J70 τ a1 a2 a3 = some out → IU D J o Ld z G e0 Ur N s H locs τ → lv_has ls 5 [(0, .ref o), (1, .int a1), (2, .int a2), (3, .int a3), (4, .ref (wA o 0))] → W p l e ({ frames := 21, cells := 72, slots := 432, locals := 1521 } : Room) s m args below meth c H locs 2 12 Q (F0 m 70 ls []) := by
    intro τ  H locs ls hf hI hl
    unfold X1_lend_J70 at hf
    refine lv_iconst (v := (0 : Int32)) hx hb dX1_lend_70 (by decide) ?_
    exact hJ71 τ (0 : Int32) H locs ls hf hI  (lv_sub hl [0, 1, 2, 3, 4] rfl)
  have hJ31 : ∀ (τ : Cs) (y0 : Int32) (H : Heap) (locs : List Loc) (ls : Array Slot), X1_lend_J31 τ a1 a2 a3 y0 = some out → IU D J o Ld z G e0 Ur N s H locs τ → lv_has ls 5 [(0, .ref o), (1, .int a1), (2, .int a2), (3, .int a3)] → W p l e ({ frames := 21, cells := 72, slots := 432, locals := 1521 } : Room) s m args below meth c H locs 2 12 Q (F0 m 31 ls [.int y0]) := by
    intro τ y0 H locs ls hf hI hl
    unfold X1_lend_J31 at hf
    obtain ⟨x31, ex31, hf⟩ := obd hf
    rcases x31 with _ | nx31
    rotate_left
    · replace hf := oelS hf
      exact uxcallS (rest := []) hx hb hts hst hown hE hT hI hml hl.1 (mX1_demand y0 _ ex31) (csX1_demand_X1 hts ⟨Nat.le_of_ble_eq_true rfl, Nat.le_of_ble_eq_true rfl⟩) ⟨Nat.le_of_ble_eq_true rfl, Nat.le_of_ble_eq_true rfl⟩ rfl rfl (lv_room (Nat.le_of_ble_eq_true rfl)) dX1_lend_31 (fun E ce q9 n H locs ho hn hI h1 h2 h3 => by cases ho; exact hxx H locs 31 ls _ _ _ E ce q9 _ _ hI (Option.some.inj hf).symm hn h1 h2 h3 (Nat.le_of_ble_eq_true rfl) (Nat.le_of_ble_eq_true rfl)) (fun ho => by cases ho)
    replace hf := oelN hf
    refine tcallSv (rest := []) hx hb hts hown hml hl.1 (nX1_demand y0 ex31) (dsX1_demand_X1 hts ⟨Nat.le_of_ble_eq_true rfl, Nat.le_of_ble_eq_true rfl⟩) ⟨Nat.le_of_ble_eq_true rfl, Nat.le_of_ble_eq_true rfl⟩ rfl rfl (lv_room (Nat.le_of_ble_eq_true rfl)) dX1_lend_31 ?_
    refine lv_aload_n hx hb dX1_lend_34 rfl (lv_at hl 0 rfl) ?_
    refine gget hx hb hts in_X1 hown hE.1.1 (hI.1.o 0 rfl) rfl 0 (by decide) q463 rfl dX1_lend_35 ?_
    refine lv_astore (lv' := [(4, .ref (wA o 0)), (0, .ref o), (1, .int a1), (2, .int a2), (3, .int a3)]) hx hb dX1_lend_38 hl (by decide) rfl (fun ls hl => ?_)
    refine lv_aload hx hb dX1_lend_40 (lv_at hl 0 rfl) ?_
    refine ggetN hx hb hts in_X2 hown hE.1.1 (hI.1.w 0 (by decide) 0 rfl) rfl 10 (by decide) (hE.1.2.2.f 12 rfl) rfl dX1_lend_42 ?_
    refine lv_iload_n hx hb dX1_lend_45 rfl (lv_at hl 2 rfl) ?_
    obtain ⟨x46, ex46, hf⟩ := obd hf
    refine gald hx hb hE.1.1 0 (hI.1.w 0 (by decide) 2 rfl) rfl ex46 dX1_lend_46 ?_
    refine lv_iload_n hx hb dX1_lend_47 rfl (lv_at hl 4 rfl) ?_
    refine lv_icmp_lt (tgt := 70) hx hb dX1_lend_48 (by decide) (fun hc => ?_) (fun hc => ?_)
    · replace hf := ipos hc hf
      exact hJ70 τ H locs ls hf hI  (lv_sub hl [1, 2, 3, 4, 0] rfl)
    · replace hf := ineg hc hf
      refine lv_aload hx hb dX1_lend_51 (lv_at hl 0 rfl) ?_
      refine ggetN hx hb hts in_X2 hown hE.1.1 (hI.1.w 0 (by decide) 0 rfl) rfl 10 (by decide) (hE.1.2.2.f 12 rfl) rfl dX1_lend_53 ?_
      refine lv_iload_n hx hb dX1_lend_56 rfl (lv_at hl 3 rfl) ?_
      obtain ⟨x57, ex57, hf⟩ := obd hf
      refine gald hx hb hE.1.1 0 (hI.1.w 0 (by decide) 2 rfl) rfl ex57 dX1_lend_57 ?_
      refine lv_iload_n hx hb dX1_lend_58 rfl (lv_at hl 4 rfl) ?_
      refine lv_iadd hx hb dX1_lend_59 ?_
      refine lv_sipush (v := (9999 : Int32)) hx hb dX1_lend_60 (by decide) ?_
      refine lv_icmp_gt (tgt := 70) hx hb dX1_lend_63 (by decide) (fun hc => ?_) (fun hc => ?_)
      · replace hf := ipos hc hf
        exact hJ70 τ H locs ls hf hI  (lv_sub hl [1, 2, 3, 4, 0] rfl)
      · replace hf := ineg hc hf
        refine lv_iconst (v := (1 : Int32)) hx hb dX1_lend_66 (by decide) ?_
        refine lv_goto (tgt := 71) hx hb dX1_lend_67 (by decide) ?_
        exact hJ71 τ (1 : Int32) H locs ls hf hI  (lv_sub hl [1, 2, 3, 4, 0] rfl)
  have hJ30 : ∀ (τ : Cs) (H : Heap) (locs : List Loc) (ls : Array Slot), X1_lend_J30 τ a1 a2 a3 = some out → IU D J o Ld z G e0 Ur N s H locs τ → lv_has ls 5 [(0, .ref o), (1, .int a1), (2, .int a2), (3, .int a3)] → W p l e ({ frames := 21, cells := 72, slots := 432, locals := 1521 } : Room) s m args below meth c H locs 2 12 Q (F0 m 30 ls []) := by
    intro τ  H locs ls hf hI hl
    unfold X1_lend_J30 at hf
    refine lv_iconst (v := (0 : Int32)) hx hb dX1_lend_30 (by decide) ?_
    exact hJ31 τ (0 : Int32) H locs ls hf hI  (lv_sub hl [0, 1, 2, 3] rfl)
  refine lv_aload_n hx hb dX1_lend_0 rfl (lv_at hl 0 rfl) ?_
  refine lv_iload_n hx hb dX1_lend_1 rfl (lv_at hl 1 rfl) ?_
  obtain ⟨x2, ex2, hf⟩ := obd hf
  refine uxcallV (rest := []) hx hb hts hst hown hE hT hI hml hl.1 (mX1_partyAt Λ Λn τ a1 _ ex2) (cwX1_partyAt_X1 hts ⟨Nat.le_of_ble_eq_true rfl, Nat.le_of_ble_eq_true rfl⟩) (hI.1.o 0 rfl) rfl rfl ⟨Nat.le_of_ble_eq_true rfl, Nat.le_of_ble_eq_true rfl⟩ rfl rfl (lv_room (Nat.le_of_ble_eq_true rfl)) dX1_lend_2 (fun E ce q9 n σ' H locs ho hn hI h1 h2 h3 => by subst ho; have hf := selR hf; exact hxx H locs 2 ls _ _ _ E ce q9 n _ hI (Option.some.inj hf).symm hn h1 h2 h3 (Nat.le_of_ble_eq_true rfl) (Nat.le_of_ble_eq_true rfl)) (fun v2 H locs ho hI => ?_)
  subst ho
  replace hf := selL hf
  obtain ⟨k2, ek2, hf⟩ := obd hf
  rw [Option.some.inj ek2] at hI
  refine lv_aload_n hx hb dX1_lend_5 rfl (lv_at hl 0 rfl) ?_
  refine lv_iload_n hx hb dX1_lend_6 rfl (lv_at hl 2 rfl) ?_
  obtain ⟨x7, ex7, hf⟩ := obd hf
  refine uxcallV (rest := []) hx hb hts hst hown hE hT hI hml hl.1 (mX1_partyAt Λ Λn k2 a2 _ ex7) (cwX1_partyAt_X1 hts ⟨Nat.le_of_ble_eq_true rfl, Nat.le_of_ble_eq_true rfl⟩) (hI.1.o 0 rfl) rfl rfl ⟨Nat.le_of_ble_eq_true rfl, Nat.le_of_ble_eq_true rfl⟩ rfl rfl (lv_room (Nat.le_of_ble_eq_true rfl)) dX1_lend_7 (fun E ce q9 n σ' H locs ho hn hI h1 h2 h3 => by subst ho; have hf := selR hf; exact hxx H locs 7 ls _ _ _ E ce q9 n _ hI (Option.some.inj hf).symm hn h1 h2 h3 (Nat.le_of_ble_eq_true rfl) (Nat.le_of_ble_eq_true rfl)) (fun v7 H locs ho hI => ?_)
  subst ho
  replace hf := selL hf
  obtain ⟨k7, ek7, hf⟩ := obd hf
  rw [Option.some.inj ek7] at hI
  refine lv_iload_n hx hb dX1_lend_10 rfl (lv_at hl 1 rfl) ?_
  refine lv_iload_n hx hb dX1_lend_11 rfl (lv_at hl 2 rfl) ?_
  refine lv_icmp_eq (tgt := 30) hx hb dX1_lend_12 (by decide) (fun hc => ?_) (fun hc => ?_)
  · replace hf := ipos hc hf
    exact hJ30 k7 H locs ls hf hI  (lv_sub hl [0, 1, 2, 3] rfl)
  · replace hf := ineg hc hf
    refine lv_iload_n hx hb dX1_lend_15 rfl (lv_at hl 3 rfl) ?_
    refine lv_iconst (v := (1 : Int32)) hx hb dX1_lend_16 (by decide) ?_
    refine lv_sipush (v := (999 : Int32)) hx hb dX1_lend_17 (by decide) ?_
    obtain ⟨x20, ex20, hf⟩ := obd hf
    refine tcallS (rest := []) hx hb hts hown hml hl.1 (mX1_in a3 (1 : Int32) (999 : Int32) _ ex20) (csX1_in_X1 hts ⟨Nat.le_of_ble_eq_true rfl, Nat.le_of_ble_eq_true rfl⟩) ⟨Nat.le_of_ble_eq_true rfl, Nat.le_of_ble_eq_true rfl⟩ rfl rfl (lv_room (Nat.le_of_ble_eq_true rfl)) dX1_lend_20 ?_
    refine lv_if_eq (tgt := 30) hx hb dX1_lend_23 (by decide) (fun hc => ?_) (fun hc => ?_)
    · replace hf := ipos hc hf
      exact hJ30 k7 H locs ls hf hI  (lv_sub hl [0, 1, 2, 3] rfl)
    · replace hf := ineg hc hf
      refine lv_iconst (v := (1 : Int32)) hx hb dX1_lend_26 (by decide) ?_
      refine lv_goto (tgt := 31) hx hb dX1_lend_27 (by decide) ?_
      exact hJ31 k7 (1 : Int32) H locs ls hf hI  (lv_sub hl [0, 1, 2, 3] rfl)

def X1_salt (τ : Cs) (a1 : Int32) : Option Xo :=
  (X1_in a1 (0 : Int32) (9 : Int32)).bind fun x4 =>
  (X1_demand x4).bind fun x7 =>
  Option.elim x7 (
  (X1_remembers τ).bind fun t11 =>
  (some (cw t11 0 0 5)).bind fun v21 =>
  (some (cwu t11 0 (mup (cw t11 0) 0 5 a1))).bind fun t27 =>
  some (.inl (v21, t27))) fun n => some (.inr (n, τ))
set_option maxHeartbeats 4000000 in
theorem mX1_salt (Λ : Nat → Nat → (Nat → Int32) → Int32) (Λn : Nat → Int32) (τ : Cs) (a1 : Int32) (out : Xo) (hf : X1_salt τ a1 = some out) : CYi yX1_salt cX1_salt 3 (some .int) 21 1521 70 420 Λ Λn (fun o aK aF => [.ref o, .int a1]) out τ := by
  refine CYi.of (by decide) (fun _ _ _ => Nat.le_of_ble_eq_true rfl) ?_
  intro p l e s m args below meth c D J o z aK aV G Ld aF e0 mi Ur N Q ls hst hx hb hml hown hts hE hT hEU hret hxx hthr hI hl
  obtain ⟨H, eH⟩ : ∃ H, H = s.heap := ⟨_, rfl⟩
  obtain ⟨locs, eL⟩ : ∃ L : List Loc, L = [] := ⟨_, rfl⟩
  rw [← eH, ← eL] at hI ⊢
  have hown : s.vm.findClass RX1 = some m.cls := hown
  have hl : lv_has ls 3 [(0, .ref o), (1, .int a1)] := hl
  unfold X1_salt at hf
  refine lv_iload_n hx hb dX1_salt_0 rfl (lv_at hl 1 rfl) ?_
  refine lv_iconst (v := (0 : Int32)) hx hb dX1_salt_1 (by decide) ?_
  refine lv_bipush (v := (9 : Int32)) hx hb dX1_salt_2 (by decide) ?_
  obtain ⟨x4, ex4, hf⟩ := obd hf
  refine tcallS (rest := []) hx hb hts hown hml hl.1 (mX1_in a1 (0 : Int32) (9 : Int32) _ ex4) (csX1_in_X1 hts ⟨Nat.le_of_ble_eq_true rfl, Nat.le_of_ble_eq_true rfl⟩) ⟨Nat.le_of_ble_eq_true rfl, Nat.le_of_ble_eq_true rfl⟩ rfl rfl (lv_room (Nat.le_of_ble_eq_true rfl)) dX1_salt_4 ?_
  obtain ⟨x7, ex7, hf⟩ := obd hf
  rcases x7 with _ | nx7
  rotate_left
  · replace hf := oelS hf
    exact uxcallS (rest := []) hx hb hts hst hown hE hT hI hml hl.1 (mX1_demand x4 _ ex7) (csX1_demand_X1 hts ⟨Nat.le_of_ble_eq_true rfl, Nat.le_of_ble_eq_true rfl⟩) ⟨Nat.le_of_ble_eq_true rfl, Nat.le_of_ble_eq_true rfl⟩ rfl rfl (lv_room (Nat.le_of_ble_eq_true rfl)) dX1_salt_7 (fun E ce q9 n H locs ho hn hI h1 h2 h3 => by cases ho; exact hxx H locs 7 ls _ _ _ E ce q9 _ _ hI (Option.some.inj hf).symm hn h1 h2 h3 (Nat.le_of_ble_eq_true rfl) (Nat.le_of_ble_eq_true rfl)) (fun ho => by cases ho)
  replace hf := oelN hf
  refine tcallSv (rest := []) hx hb hts hown hml hl.1 (nX1_demand x4 ex7) (dsX1_demand_X1 hts ⟨Nat.le_of_ble_eq_true rfl, Nat.le_of_ble_eq_true rfl⟩) ⟨Nat.le_of_ble_eq_true rfl, Nat.le_of_ble_eq_true rfl⟩ rfl rfl (lv_room (Nat.le_of_ble_eq_true rfl)) dX1_salt_7 ?_
  refine lv_aload_n hx hb dX1_salt_10 rfl (lv_at hl 0 rfl) ?_
  obtain ⟨t11, et11, hf⟩ := obd hf
  refine uremem (rest := []) hx hb hts hown hE hT hEU hI hml hl.1 et11 ⟨Nat.le_of_ble_eq_true rfl, Nat.le_of_ble_eq_true rfl⟩ ⟨Nat.le_of_ble_eq_true rfl, Nat.le_of_ble_eq_true rfl⟩ (lv_room (Nat.le_of_ble_eq_true rfl)) dX1_salt_11 (fun H locs hI => ?_)
  refine lv_aload_n hx hb dX1_salt_14 rfl (lv_at hl 0 rfl) ?_
  refine gget hx hb hts in_X1 hown hE.1.1 (hI.1.o 0 rfl) rfl 0 (by decide) q463 rfl dX1_salt_15 ?_
  refine ggetN hx hb hts in_X2 hown hE.1.1 (hI.1.w 0 (by decide) 0 rfl) rfl 5 (by decide) (hE.1.2.2.f 7 rfl) rfl dX1_salt_18 ?_
  obtain ⟨v21, ev21, hf⟩ := obd hf
  refine nmI ev21 ?_
  refine lv_istore_n (lv' := [(2, .int v21), (0, .ref o), (1, .int a1)]) hx hb dX1_salt_21 rfl hl (by decide) rfl (fun ls hl => ?_)
  refine lv_aload_n hx hb dX1_salt_22 rfl (lv_at hl 1 rfl) ?_
  refine gget hx hb hts in_X1 hown hE.1.1 (hI.1.o 0 rfl) rfl 0 (by decide) q463 rfl dX1_salt_23 ?_
  refine lv_iload_n hx hb dX1_salt_26 rfl (lv_at hl 2 rfl) ?_
  obtain ⟨t27, et27, hf⟩ := obd hf
  refine gputN hx hb hts in_X2 tyX2 tyX2_ok nmX2 hown hE.1.1 (hI.1.w 0 (by decide) 0 rfl) rfl 5 (by decide) (hE.1.2.2.f 7 rfl) rfl rfl rfl (Nat.le_of_ble_eq_true rfl) dX1_salt_27 (fun H locs h1 h2 h3 h4 => ?_)
  have hI := hI.putW (k := 0) (P := 0) (w' := mup (cw t11 0) 0 5 a1) (by decide) rfl rfl h1 h2 h3 h4
  rw [Option.some.inj et27] at hI
  refine lv_iload_n hx hb dX1_salt_30 rfl (lv_at hl 0 rfl) ?_
  exact hret H locs 31 ls _ _ hI (Option.some.inj hf).symm dX1_salt_31

def X1_bar_J25 (τ : Cs) (a1 : Int32) (a2 : Int32) (y0 : Int32) : Option (Xo) :=
  (X1_demand y0).bind fun x25 =>
  Option.elim x25 (
  (X1_remembers τ).bind fun t29 =>
  (ld 8 (cw t29 0 22) a1).bind fun x40 =>
  (stof 8 (cw t29 0 22) a1 a2).bind fun g51 =>
  (some (cwu t29 0 (mset (cw t29 0) 22 g51))).bind fun t51 =>
  some (.inl (x40, t51))) fun n => some (.inr (n, τ))
def X1_bar_J15 (τ : Cs) (a1 : Int32) (a2 : Int32) : Option (Xo) :=
  if a1 ≤ a2 then
    X1_bar_J25 τ a1 a2 (0 : Int32)
  else
    X1_bar_J25 τ a1 a2 (1 : Int32)
def X1_bar (τ : Cs) (a1 : Int32) (a2 : Int32) : Option Xo :=
  (X1_deedAt τ a1).bind fun x2 =>
  Sum.elim (fun (v2 : Int32 × Cs) =>
    (some (uk τ v2.2)).bind fun k2 =>
    if a2 = (-1 : Int32) then
      X1_bar_J15 k2 a1 a2
    else
      (X1_deedAt k2 a2).bind fun x12 =>
      Sum.elim (fun (v12 : Int32 × Cs) =>
        (some (uk k2 v12.2)).bind fun k12 =>
        X1_bar_J15 k12 a1 a2) (fun (u : Nat × Cs) => some (.inr (u.1, uk k2 u.2))) x12) (fun (u : Nat × Cs) => some (.inr (u.1, uk τ u.2))) x2
set_option maxHeartbeats 4000000 in
theorem mX1_bar (Λ : Nat → Nat → (Nat → Int32) → Int32) (Λn : Nat → Int32) (τ : Cs) (a1 : Int32) (a2 : Int32) (out : Xo) (hf : X1_bar τ a1 a2 = some out) : CYi yX1_bar cX1_bar 4 (some .int) 21 1521 72 432 Λ Λn (fun o aK aF => [.ref o, .int a1, .int a2]) out τ := by
  refine CYi.of (by decide) (fun _ _ _ => Nat.le_of_ble_eq_true rfl) ?_
  intro p l e s m args below meth c D J o z aK aV G Ld aF e0 mi Ur N Q ls hst hx hb hml hown hts hE hT hEU hret hxx hthr hI hl
  obtain ⟨H, eH⟩ : ∃ H, H = s.heap := ⟨_, rfl⟩
  obtain ⟨locs, eL⟩ : ∃ L : List Loc, L = [] := ⟨_, rfl⟩
  rw [← eH, ← eL] at hI ⊢
  have hown : s.vm.findClass RX1 = some m.cls := hown
  have hl : lv_has ls 4 [(0, .ref o), (1, .int a1), (2, .int a2)] := hl
  unfold X1_bar at hf
  have hJ25 : ∀ (τ : Cs) (y0 : Int32) (H : Heap) (locs : List Loc) (ls : Array Slot), X1_bar_J25 τ a1 a2 y0 = some out → IU D J o Ld z G e0 Ur N s H locs τ → lv_has ls 4 [(0, .ref o), (1, .int a1), (2, .int a2)] → W p l e ({ frames := 21, cells := 72, slots := 432, locals := 1521 } : Room) s m args below meth c H locs 2 12 Q (F0 m 25 ls [.int y0]) := by
    intro τ y0 H locs ls hf hI hl
    unfold X1_bar_J25 at hf
    obtain ⟨x25, ex25, hf⟩ := obd hf
    rcases x25 with _ | nx25
    rotate_left
    · replace hf := oelS hf
      exact uxcallS (rest := []) hx hb hts hst hown hE hT hI hml hl.1 (mX1_demand y0 _ ex25) (csX1_demand_X1 hts ⟨Nat.le_of_ble_eq_true rfl, Nat.le_of_ble_eq_true rfl⟩) ⟨Nat.le_of_ble_eq_true rfl, Nat.le_of_ble_eq_true rfl⟩ rfl rfl (lv_room (Nat.le_of_ble_eq_true rfl)) dX1_bar_25 (fun E ce q9 n H locs ho hn hI h1 h2 h3 => by cases ho; exact hxx H locs 25 ls _ _ _ E ce q9 _ _ hI (Option.some.inj hf).symm hn h1 h2 h3 (Nat.le_of_ble_eq_true rfl) (Nat.le_of_ble_eq_true rfl)) (fun ho => by cases ho)
    replace hf := oelN hf
    refine tcallSv (rest := []) hx hb hts hown hml hl.1 (nX1_demand y0 ex25) (dsX1_demand_X1 hts ⟨Nat.le_of_ble_eq_true rfl, Nat.le_of_ble_eq_true rfl⟩) ⟨Nat.le_of_ble_eq_true rfl, Nat.le_of_ble_eq_true rfl⟩ rfl rfl (lv_room (Nat.le_of_ble_eq_true rfl)) dX1_bar_25 ?_
    refine lv_aload_n hx hb dX1_bar_28 rfl (lv_at hl 0 rfl) ?_
    obtain ⟨t29, et29, hf⟩ := obd hf
    refine uremem (rest := []) hx hb hts hown hE hT hEU hI hml hl.1 et29 ⟨Nat.le_of_ble_eq_true rfl, Nat.le_of_ble_eq_true rfl⟩ ⟨Nat.le_of_ble_eq_true rfl, Nat.le_of_ble_eq_true rfl⟩ (lv_room (Nat.le_of_ble_eq_true rfl)) dX1_bar_29 (fun H locs hI => ?_)
    refine lv_aload_n hx hb dX1_bar_32 rfl (lv_at hl 0 rfl) ?_
    refine gget hx hb hts in_X1 hown hE.1.1 (hI.1.o 0 rfl) rfl 0 (by decide) q463 rfl dX1_bar_33 ?_
    refine ggetN hx hb hts in_X2 hown hE.1.1 (hI.1.w 0 (by decide) 0 rfl) rfl 22 (by decide) (hE.1.2.2.f 29 rfl) rfl dX1_bar_36 ?_
    refine lv_iload_n hx hb dX1_bar_39 rfl (lv_at hl 1 rfl) ?_
    obtain ⟨x40, ex40, hf⟩ := obd hf
    refine gald hx hb hE.1.1 0 (hI.1.w 0 (by decide) 14 rfl) rfl ex40 dX1_bar_40 ?_
    refine lv_istore_n (lv' := [(3, .int x40), (0, .ref o), (1, .int a1), (2, .int a2)]) hx hb dX1_bar_41 rfl hl (by decide) rfl (fun ls hl => ?_)
    refine lv_aload_n hx hb dX1_bar_42 rfl (lv_at hl 1 rfl) ?_
    refine gget hx hb hts in_X1 hown hE.1.1 (hI.1.o 0 rfl) rfl 0 (by decide) q463 rfl dX1_bar_43 ?_
    refine ggetN hx hb hts in_X2 hown hE.1.1 (hI.1.w 0 (by decide) 0 rfl) rfl 22 (by decide) (hE.1.2.2.f 29 rfl) rfl dX1_bar_46 ?_
    refine lv_iload_n hx hb dX1_bar_49 rfl (lv_at hl 2 rfl) ?_
    refine lv_iload_n hx hb dX1_bar_50 rfl (lv_at hl 3 rfl) ?_
    obtain ⟨g51, eg51, hf⟩ := obd hf
    obtain ⟨t51, et51, hf⟩ := obd hf
    refine gast hx hb hE.1.1 0 (hI.1.w 0 (by decide) 14 rfl) rfl eg51 dX1_bar_51 (fun H locs h1 h2 h3 h4 => ?_)
    have hI := hI.putW (k := 0) (w' := mset (cw t29 0) 22 g51) (P := 14) (by decide) rfl rfl h1 h2 h3 h4
    rw [Option.some.inj et51] at hI
    refine lv_iload_n hx hb dX1_bar_52 rfl (lv_at hl 0 rfl) ?_
    exact hret H locs 53 ls _ _ hI (Option.some.inj hf).symm dX1_bar_53
  have hJ15 : ∀ (τ : Cs) (H : Heap) (locs : List Loc) (ls : Array Slot), X1_bar_J15 τ a1 a2 = some out → IU D J o Ld z G e0 Ur N s H locs τ → lv_has ls 4 [(0, .ref o), (1, .int a1), (2, .int a2)] → W p l e ({ frames := 21, cells := 72, slots := 432, locals := 1521 } : Room) s m args below meth c H locs 2 12 Q (F0 m 15 ls []) := by
    intro τ  H locs ls hf hI hl
    unfold X1_bar_J15 at hf
    refine lv_iload_n hx hb dX1_bar_15 rfl (lv_at hl 2 rfl) ?_
    refine lv_iload_n hx hb dX1_bar_16 rfl (lv_at hl 1 rfl) ?_
    refine lv_icmp_ge (tgt := 24) hx hb dX1_bar_17 (by decide) (fun hc => ?_) (fun hc => ?_)
    · replace hf := ipos hc hf
      refine lv_iconst (v := (0 : Int32)) hx hb dX1_bar_24 (by decide) ?_
      exact hJ25 τ (0 : Int32) H locs ls hf hI  (lv_sub hl [0, 1, 2] rfl)
    · replace hf := ineg hc hf
      refine lv_iconst (v := (1 : Int32)) hx hb dX1_bar_20 (by decide) ?_
      refine lv_goto (tgt := 25) hx hb dX1_bar_21 (by decide) ?_
      exact hJ25 τ (1 : Int32) H locs ls hf hI  (lv_sub hl [0, 1, 2] rfl)
  refine lv_aload_n hx hb dX1_bar_0 rfl (lv_at hl 0 rfl) ?_
  refine lv_iload_n hx hb dX1_bar_1 rfl (lv_at hl 1 rfl) ?_
  obtain ⟨x2, ex2, hf⟩ := obd hf
  refine uxcallV (rest := []) hx hb hts hst hown hE hT hI hml hl.1 (mX1_deedAt Λ Λn τ a1 _ ex2) (cwX1_deedAt_X1 hts ⟨Nat.le_of_ble_eq_true rfl, Nat.le_of_ble_eq_true rfl⟩) (hI.1.o 0 rfl) rfl rfl ⟨Nat.le_of_ble_eq_true rfl, Nat.le_of_ble_eq_true rfl⟩ rfl rfl (lv_room (Nat.le_of_ble_eq_true rfl)) dX1_bar_2 (fun E ce q9 n σ' H locs ho hn hI h1 h2 h3 => by subst ho; have hf := selR hf; exact hxx H locs 2 ls _ _ _ E ce q9 n _ hI (Option.some.inj hf).symm hn h1 h2 h3 (Nat.le_of_ble_eq_true rfl) (Nat.le_of_ble_eq_true rfl)) (fun v2 H locs ho hI => ?_)
  subst ho
  replace hf := selL hf
  obtain ⟨k2, ek2, hf⟩ := obd hf
  rw [Option.some.inj ek2] at hI
  refine lv_iload_n hx hb dX1_bar_5 rfl (lv_at hl 2 rfl) ?_
  refine lv_iconst (v := (-1 : Int32)) hx hb dX1_bar_6 (by decide) ?_
  refine lv_icmp_eq (tgt := 15) hx hb dX1_bar_7 (by decide) (fun hc => ?_) (fun hc => ?_)
  · replace hf := ipos hc hf
    refine W.widen (k := 2) (n := 12) (Nat.le_of_ble_eq_true rfl) (Nat.le_of_ble_eq_true rfl) ?_
    exact hJ15 k2 H locs ls hf hI  (lv_sub hl [0, 1, 2] rfl)
  · replace hf := ineg hc hf
    refine lv_aload_n hx hb dX1_bar_10 rfl (lv_at hl 0 rfl) ?_
    refine lv_iload_n hx hb dX1_bar_11 rfl (lv_at hl 2 rfl) ?_
    obtain ⟨x12, ex12, hf⟩ := obd hf
    refine uxcallV (rest := []) hx hb hts hst hown hE hT hI hml hl.1 (mX1_deedAt Λ Λn k2 a2 _ ex12) (cwX1_deedAt_X1 hts ⟨Nat.le_of_ble_eq_true rfl, Nat.le_of_ble_eq_true rfl⟩) (hI.1.o 0 rfl) rfl rfl ⟨Nat.le_of_ble_eq_true rfl, Nat.le_of_ble_eq_true rfl⟩ rfl rfl (lv_room (Nat.le_of_ble_eq_true rfl)) dX1_bar_12 (fun E ce q9 n σ' H locs ho hn hI h1 h2 h3 => by subst ho; have hf := selR hf; exact hxx H locs 12 ls _ _ _ E ce q9 n _ hI (Option.some.inj hf).symm hn h1 h2 h3 (Nat.le_of_ble_eq_true rfl) (Nat.le_of_ble_eq_true rfl)) (fun v12 H locs ho hI => ?_)
    subst ho
    replace hf := selL hf
    obtain ⟨k12, ek12, hf⟩ := obd hf
    rw [Option.some.inj ek12] at hI
    exact hJ15 k12 H locs ls hf hI  (lv_sub hl [0, 1, 2] rfl)

def X1_back (τ : Cs) : Option Xo :=
  if (co τ 0 3) = (0 : Int32) then
    some (.inl ((0 : Int32), τ))
  else
    (clk τ 0 2).bind fun t17 =>
    (some (nuU t17 0)).bind fun t25 =>
    some (.inl ((1 : Int32), t25))
set_option maxHeartbeats 4000000 in
theorem mX1_back (Λ : Nat → Nat → (Nat → Int32) → Int32) (Λn : Nat → Int32) (τ : Cs) (out : Xo) (hf : X1_back τ = some out) : CYi yX1_back cX1_back 1 (some .boolean) 4 321 0 0 Λ Λn (fun o aK aF => [.ref o]) out τ := by
  refine CYz.of (by decide) (fun _ _ _ => Nat.le_of_ble_eq_true rfl) ?_
  intro p l e s m args below meth c D J o z aK aV G Ld aF e0 mi Ur N Q ls hst hx hb hml hown hts hE hT hEU hret hxx hthr hI hl
  obtain ⟨H, eH⟩ : ∃ H, H = s.heap := ⟨_, rfl⟩
  obtain ⟨locs, eL⟩ : ∃ L : List Loc, L = [] := ⟨_, rfl⟩
  rw [← eH, ← eL] at hI ⊢
  have hown : s.vm.findClass RX1 = some m.cls := hown
  have hl : lv_has ls 1 [(0, .ref o)] := hl
  unfold X1_back at hf
  refine lv_aload_n hx hb dX1_back_0 rfl (lv_at hl 0 rfl) ?_
  refine gget hx hb hts in_X1 hown hE.1.1 (hI.1.o 0 rfl) rfl 3 (by decide) q468 rfl dX1_back_1 ?_
  refine lv_if_ne (tgt := 9) hx hb dX1_back_4 (by decide) (fun hc => ?_) (fun hc => ?_)
  · replace hf := ineg hc hf
    refine lv_aload_n hx hb dX1_back_9 rfl (lv_at hl 0 rfl) ?_
    refine gget hx hb hts in_X1 hown hE.1.1 (hI.1.o 0 rfl) rfl 0 (by decide) q463 rfl dX1_back_10 ?_
    refine lv_aload_n hx hb dX1_back_13 rfl (lv_at hl 0 rfl) ?_
    refine gget hx hb hts in_X1 hown hE.1.1 (hI.1.o 0 rfl) rfl 2 (by decide) q467 rfl dX1_back_14 ?_
    obtain ⟨t17, et17, hf⟩ := obd hf
    refine uclikens (rest := []) hx hb hts hown hE hI hml hl.1 (by decide) (by decide) (by decide) et17 ⟨Nat.le_of_ble_eq_true rfl, Nat.le_of_ble_eq_true rfl⟩ ⟨Nat.le_of_ble_eq_true rfl, Nat.le_of_ble_eq_true rfl⟩ (lv_room (Nat.le_of_ble_eq_true rfl)) dX1_back_17 (fun H locs hI => ?_)
    refine lv_pop hx hb dX1_back_20 rfl ?_
    refine lv_aload_n hx hb dX1_back_21 rfl (lv_at hl 0 rfl) ?_
    refine gget hx hb hts in_X1 hown hE.1.1 (hI.1.o 0 rfl) rfl 8 (by decide) q474 rfl dX1_back_22 ?_
    obtain ⟨t25, et25, hf⟩ := obd hf
    refine uclear (rest := []) hx hb hts hown hE hEU hI hml hl.1 ⟨Nat.le_of_ble_eq_true rfl, Nat.le_of_ble_eq_true rfl⟩ ⟨Nat.le_of_ble_eq_true rfl, Nat.le_of_ble_eq_true rfl⟩ (lv_room (Nat.le_of_ble_eq_true rfl)) dX1_back_25 (fun H locs hI => ?_)
    rw [Option.some.inj et25] at hI
    refine lv_iconst (v := (1 : Int32)) hx hb dX1_back_28 (by decide) ?_
    exact hret H locs 29 ls _ _ hI (Option.some.inj hf).symm (by decide) dX1_back_29
  · replace hf := ipos hc hf
    refine lv_iconst (v := (0 : Int32)) hx hb dX1_back_7 (by decide) ?_
    exact hret H locs 8 ls _ _ hI (Option.some.inj hf).symm (by decide) dX1_back_8

def X1_count (Λn : Nat → Int32) (τ : Cs) (a1 : Int32) : Option Xo :=
  if a1 = (0 : Int32) then
    some (.inl ((cw τ 0 0 1), τ))
  else
  if a1 = (1 : Int32) then
    some (.inl ((cw τ 0 0 2), τ))
  else
  if a1 = (2 : Int32) then
    some (.inl ((cw τ 0 0 3), τ))
  else
  if a1 = (3 : Int32) then
    some (.inl ((cw τ 0 0 0), τ))
  else
  if a1 = (4 : Int32) then
    Option.elim (cl τ 0) (
      some (.inl ((-1 : Int32), τ))) fun la89 =>
    Option.elim (cl τ 0) (
      none) fun la100 =>
    some (.inl ((Λn la100), τ))
  else
  if a1 = (5 : Int32) then
    some (.inl ((cw τ 0 0 4), τ))
  else
  if a1 = (6 : Int32) then
    some (.inl ((cw τ 0 0 5), τ))
  else
  if a1 = (7 : Int32) then
    some (.inl ((cw τ 0 0 6), τ))
  else
  if a1 = (8 : Int32) then
    (X1_coinsOfAll τ 0).bind fun x127 =>
    some (.inl (x127, τ))
  else
  if a1 = (9 : Int32) then
    (X2_paidOnes (cw τ 0)).bind fun x132 =>
    some (.inl (x132, τ))
  else
  if a1 = (10 : Int32) then
    some (.inl ((cw τ 0 0 7), τ))
  else
  if a1 = (11 : Int32) then
    some (.inl ((co τ 9 0), τ))
  else
  some (.inl ((-1 : Int32), τ))
set_option maxHeartbeats 4000000 in
theorem mX1_count (Λ : Nat → Nat → (Nat → Int32) → Int32) (Λn : Nat → Int32) (τ : Cs) (a1 : Int32) (out : Xo) (hf : X1_count Λn τ a1 = some out) : CYi yX1_count cX1_count 3 (some .int) 4 200 0 0 Λ Λn (fun o aK aF => [.ref o, .int a1]) out τ := by
  refine CYi.of (by decide) (fun _ _ _ => Nat.le_of_ble_eq_true rfl) ?_
  intro p l e s m args below meth c D J o z aK aV G Ld aF e0 mi Ur N Q ls hst hx hb hml hown hts hE hT hEU hret hxx hthr hI hl
  obtain ⟨H, eH⟩ : ∃ H, H = s.heap := ⟨_, rfl⟩
  obtain ⟨locs, eL⟩ : ∃ L : List Loc, L = [] := ⟨_, rfl⟩
  rw [← eH, ← eL] at hI ⊢
  have hown : s.vm.findClass RX1 = some m.cls := hown
  have hl : lv_has ls 3 [(0, .ref o), (1, .int a1)] := hl
  unfold X1_count at hf
  refine lv_aload_n hx hb dX1_count_0 rfl (lv_at hl 0 rfl) ?_
  refine gget hx hb hts in_X1 hown hE.1.1 (hI.1.o 0 rfl) rfl 0 (by decide) q463 rfl dX1_count_1 ?_
  refine lv_astore_n (lv' := [(2, .ref (wA o 0)), (0, .ref o), (1, .int a1)]) hx hb dX1_count_4 rfl hl (by decide) rfl (fun ls hl => ?_)
  refine lv_iload_n hx hb dX1_count_5 rfl (lv_at hl 2 rfl) ?_
  by_cases hs6_0 : a1 = (0 : Int32)
  · replace hf := ipos hs6_0 hf
    refine lv_tableIn (off := 62) (tgt := 68) hx hb dX1_count_6 (by rw [hs6_0]; decide) (by rw [hs6_0]; decide) (by rw [hs6_0]; rfl) (by decide) ?_
    refine lv_aload_n hx hb dX1_count_68 rfl (lv_at hl 0 rfl) ?_
    refine ggetN hx hb hts in_X2 hown hE.1.1 (hI.1.w 0 (by decide) 0 rfl) rfl 1 (by decide) (hE.1.2.2.f 1 rfl) rfl dX1_count_69 ?_
    exact hret H locs 72 ls _ _ hI (Option.some.inj hf).symm dX1_count_72
  replace hf := ineg hs6_0 hf
  by_cases hs6_1 : a1 = (1 : Int32)
  · replace hf := ipos hs6_1 hf
    refine lv_tableIn (off := 67) (tgt := 73) hx hb dX1_count_6 (by rw [hs6_1]; decide) (by rw [hs6_1]; decide) (by rw [hs6_1]; rfl) (by decide) ?_
    refine lv_aload_n hx hb dX1_count_73 rfl (lv_at hl 0 rfl) ?_
    refine ggetN hx hb hts in_X2 hown hE.1.1 (hI.1.w 0 (by decide) 0 rfl) rfl 2 (by decide) (hE.1.2.2.f 3 rfl) rfl dX1_count_74 ?_
    exact hret H locs 77 ls _ _ hI (Option.some.inj hf).symm dX1_count_77
  replace hf := ineg hs6_1 hf
  by_cases hs6_2 : a1 = (2 : Int32)
  · replace hf := ipos hs6_2 hf
    refine lv_tableIn (off := 72) (tgt := 78) hx hb dX1_count_6 (by rw [hs6_2]; decide) (by rw [hs6_2]; decide) (by rw [hs6_2]; rfl) (by decide) ?_
    refine lv_aload_n hx hb dX1_count_78 rfl (lv_at hl 0 rfl) ?_
    refine ggetN hx hb hts in_X2 hown hE.1.1 (hI.1.w 0 (by decide) 0 rfl) rfl 3 (by decide) (hE.1.2.2.f 5 rfl) rfl dX1_count_79 ?_
    exact hret H locs 82 ls _ _ hI (Option.some.inj hf).symm dX1_count_82
  replace hf := ineg hs6_2 hf
  by_cases hs6_3 : a1 = (3 : Int32)
  · replace hf := ipos hs6_3 hf
    refine lv_tableIn (off := 77) (tgt := 83) hx hb dX1_count_6 (by rw [hs6_3]; decide) (by rw [hs6_3]; decide) (by rw [hs6_3]; rfl) (by decide) ?_
    refine lv_aload_n hx hb dX1_count_83 rfl (lv_at hl 0 rfl) ?_
    refine ggetN hx hb hts in_X2 hown hE.1.1 (hI.1.w 0 (by decide) 0 rfl) rfl 0 (by decide) (hE.1.2.2.f 0 rfl) rfl dX1_count_84 ?_
    exact hret H locs 87 ls _ _ hI (Option.some.inj hf).symm dX1_count_87
  replace hf := ineg hs6_3 hf
  by_cases hs6_4 : a1 = (4 : Int32)
  · replace hf := ipos hs6_4 hf
    refine lv_tableIn (off := 82) (tgt := 88) hx hb dX1_count_6 (by rw [hs6_4]; decide) (by rw [hs6_4]; decide) (by rw [hs6_4]; rfl) (by decide) ?_
    refine lv_aload_n hx hb dX1_count_88 rfl (lv_at hl 0 rfl) ?_
    refine ggetN hx hb hts in_X2 hown hE.1.1 (hI.1.w 0 (by decide) 0 rfl) rfl 28 (by decide) (hE.1.2.2.f 35 rfl) rfl dX1_count_89 ?_
    rcases hla89 : cl τ 0 with _ | la89
    · rw [hla89] at hf
      replace hf := oelN hf
      refine lv_ifnonnullN hx hb dX1_count_92 ?_
      refine lv_iconst (v := (-1 : Int32)) hx hb dX1_count_95 (by decide) ?_
      refine lv_goto (tgt := 109) hx hb dX1_count_96 (by decide) ?_
      exact hret H locs 109 ls _ _ hI (Option.some.inj hf).symm dX1_count_109
    · rw [hla89] at hf
      replace hf := oelS hf
      have hla89g := hI.1.2.2 0 (by decide) _ hla89
      refine lv_ifnonnull (tgt := 99) hx hb dX1_count_92 (by decide) ?_
      refine lv_aload_n hx hb dX1_count_99 rfl (lv_at hl 0 rfl) ?_
      refine ggetN hx hb hts in_X2 hown hE.1.1 (hI.1.w 0 (by decide) 0 rfl) rfl 28 (by decide) (hE.1.2.2.f 35 rfl) rfl dX1_count_100 ?_
      rcases hla100 : cl τ 0 with _ | la100
      · rw [← hla89, hla100] at hf
        replace hf := oelN hf
        cases hf
      · rw [← hla89, hla100] at hf
        replace hf := oelS hf
        have hla100g := hI.1.2.2 0 (by decide) _ hla100
        obtain ⟨hgla100, lstla100, nla100, elsla100, kdla100, nnla100, wwla100, hw1la100, hw2la100, hw3la100, hw4la100, hw5la100, hw6la100, hw7la100, hw8la100⟩ := (hI.envC hE (U := { s with heap := H }) rfl (State.WarmedH.refl s)).2.1.1 la100 hla100g
        refine ggetN hx hb hts in_X9 hown hE.1.1 hw1la100 rfl 0 (by decide) (hE.1.2.2.f 57 rfl) rfl dX1_count_103 ?_
        obtain ⟨v1la100, v2la100, hzla100⟩ : ∃ v w : Value, va_at D vwC (lstla100, .inr (6, [v, w, .int (Λn la100)])) H := by
          rw [hw7la100]
          rcases Nat.eq_zero_or_pos nla100 with g0 | g0
          · rw [g0]; exact hw3la100 g0
          · obtain ⟨-, mc9, arr9, -, -, -, h9, -⟩ := hw4la100 g0
            exact ⟨_, _, h9⟩
        refine rcallI (rest := []) hx hb hts hown hml hl.1 (mJ3_size D J z aK aV lstla100 v1la100 v2la100 (Λn la100)) (cwJ3_size_X1 hts ⟨Nat.le_of_ble_eq_true rfl, Nat.le_of_ble_eq_true rfl⟩) EC.keep.and (g_recv hE.1.1 hzla100 rfl) (fun U hU hW => ⟨(hI.envC hE hU hW).1, by rw [hU]; exact hzla100⟩) ⟨Nat.le_of_ble_eq_true rfl, Nat.le_of_ble_eq_true rfl⟩ rfl rfl (lv_room (Nat.le_of_ble_eq_true rfl)) dX1_count_106 ?_
        exact hret H locs 109 ls _ _ hI (Option.some.inj hf).symm dX1_count_109
  replace hf := ineg hs6_4 hf
  by_cases hs6_5 : a1 = (5 : Int32)
  · replace hf := ipos hs6_5 hf
    refine lv_tableIn (off := 104) (tgt := 110) hx hb dX1_count_6 (by rw [hs6_5]; decide) (by rw [hs6_5]; decide) (by rw [hs6_5]; rfl) (by decide) ?_
    refine lv_aload_n hx hb dX1_count_110 rfl (lv_at hl 0 rfl) ?_
    refine ggetN hx hb hts in_X2 hown hE.1.1 (hI.1.w 0 (by decide) 0 rfl) rfl 4 (by decide) (hE.1.2.2.f 6 rfl) rfl dX1_count_111 ?_
    exact hret H locs 114 ls _ _ hI (Option.some.inj hf).symm dX1_count_114
  replace hf := ineg hs6_5 hf
  by_cases hs6_6 : a1 = (6 : Int32)
  · replace hf := ipos hs6_6 hf
    refine lv_tableIn (off := 109) (tgt := 115) hx hb dX1_count_6 (by rw [hs6_6]; decide) (by rw [hs6_6]; decide) (by rw [hs6_6]; rfl) (by decide) ?_
    refine lv_aload_n hx hb dX1_count_115 rfl (lv_at hl 0 rfl) ?_
    refine ggetN hx hb hts in_X2 hown hE.1.1 (hI.1.w 0 (by decide) 0 rfl) rfl 5 (by decide) (hE.1.2.2.f 7 rfl) rfl dX1_count_116 ?_
    exact hret H locs 119 ls _ _ hI (Option.some.inj hf).symm dX1_count_119
  replace hf := ineg hs6_6 hf
  by_cases hs6_7 : a1 = (7 : Int32)
  · replace hf := ipos hs6_7 hf
    refine lv_tableIn (off := 114) (tgt := 120) hx hb dX1_count_6 (by rw [hs6_7]; decide) (by rw [hs6_7]; decide) (by rw [hs6_7]; rfl) (by decide) ?_
    refine lv_aload_n hx hb dX1_count_120 rfl (lv_at hl 0 rfl) ?_
    refine ggetN hx hb hts in_X2 hown hE.1.1 (hI.1.w 0 (by decide) 0 rfl) rfl 6 (by decide) (hE.1.2.2.f 8 rfl) rfl dX1_count_121 ?_
    exact hret H locs 124 ls _ _ hI (Option.some.inj hf).symm dX1_count_124
  replace hf := ineg hs6_7 hf
  by_cases hs6_8 : a1 = (8 : Int32)
  · replace hf := ipos hs6_8 hf
    refine lv_tableIn (off := 119) (tgt := 125) hx hb dX1_count_6 (by rw [hs6_8]; decide) (by rw [hs6_8]; decide) (by rw [hs6_8]; rfl) (by decide) ?_
    refine lv_aload_n hx hb dX1_count_125 rfl (lv_at hl 1 rfl) ?_
    refine lv_aload_n hx hb dX1_count_126 rfl (lv_at hl 0 rfl) ?_
    obtain ⟨x127, ex127, hf⟩ := obd hf
    refine uccallI (rest := []) hx hb hts hown hE hI hml hl.1 (mX1_coinsOfAll Λ Λn τ 0 (by decide) _ ex127) (cwX1_coinsOfAll_X1 hts ⟨Nat.le_of_ble_eq_true rfl, Nat.le_of_ble_eq_true rfl⟩) (hI.1.o 0 rfl) rfl rfl ⟨Nat.le_of_ble_eq_true rfl, Nat.le_of_ble_eq_true rfl⟩ rfl rfl (lv_room (Nat.le_of_ble_eq_true rfl)) dX1_count_127 (fun H locs hI => ?_)
    rw [uk_self] at hI
    exact hret H locs 130 ls _ _ hI (Option.some.inj hf).symm dX1_count_130
  replace hf := ineg hs6_8 hf
  by_cases hs6_9 : a1 = (9 : Int32)
  · replace hf := ipos hs6_9 hf
    refine lv_tableIn (off := 125) (tgt := 131) hx hb dX1_count_6 (by rw [hs6_9]; decide) (by rw [hs6_9]; decide) (by rw [hs6_9]; rfl) (by decide) ?_
    refine lv_aload_n hx hb dX1_count_131 rfl (lv_at hl 0 rfl) ?_
    obtain ⟨x132, ex132, hf⟩ := obd hf
    refine ucworldI (rest := []) hx hb hts hown hE hI hml hl.1 (mX2_paidOnes (cw τ 0) _ ex132) (by decide) (cwX2_paidOnes_X1 hts ⟨Nat.le_of_ble_eq_true rfl, Nat.le_of_ble_eq_true rfl⟩) (congrArg some (cwu_self τ 0)) ⟨Nat.le_of_ble_eq_true rfl, Nat.le_of_ble_eq_true rfl⟩ rfl rfl (lv_room (Nat.le_of_ble_eq_true rfl)) dX1_count_132 (fun H locs hI => ?_)
    exact hret H locs 135 ls _ _ hI (Option.some.inj hf).symm dX1_count_135
  replace hf := ineg hs6_9 hf
  by_cases hs6_10 : a1 = (10 : Int32)
  · replace hf := ipos hs6_10 hf
    refine lv_tableIn (off := 130) (tgt := 136) hx hb dX1_count_6 (by rw [hs6_10]; decide) (by rw [hs6_10]; decide) (by rw [hs6_10]; rfl) (by decide) ?_
    refine lv_aload_n hx hb dX1_count_136 rfl (lv_at hl 0 rfl) ?_
    refine ggetN hx hb hts in_X2 hown hE.1.1 (hI.1.w 0 (by decide) 0 rfl) rfl 7 (by decide) (hE.1.2.2.f 9 rfl) rfl dX1_count_137 ?_
    exact hret H locs 140 ls _ _ hI (Option.some.inj hf).symm dX1_count_140
  replace hf := ineg hs6_10 hf
  by_cases hs6_11 : a1 = (11 : Int32)
  · replace hf := ipos hs6_11 hf
    refine lv_tableIn (off := 135) (tgt := 141) hx hb dX1_count_6 (by rw [hs6_11]; decide) (by rw [hs6_11]; decide) (by rw [hs6_11]; rfl) (by decide) ?_
    refine lv_aload_n hx hb dX1_count_141 rfl (lv_at hl 1 rfl) ?_
    refine gget hx hb hts in_X1 hown hE.1.1 (hI.1.o 0 rfl) rfl 8 (by decide) q474 rfl dX1_count_142 ?_
    refine usize (rest := []) hx hb hts hown hE hI hml hl.1 ⟨Nat.le_of_ble_eq_true rfl, Nat.le_of_ble_eq_true rfl⟩ ⟨Nat.le_of_ble_eq_true rfl, Nat.le_of_ble_eq_true rfl⟩ (lv_room (Nat.le_of_ble_eq_true rfl)) dX1_count_145 ?_
    exact hret H locs 148 ls _ _ hI (Option.some.inj hf).symm dX1_count_148
  replace hf := ineg hs6_11 hf
  refine lv_tableOut (tgt := 149) hx hb dX1_count_6 (tswOut (n := 11) (by decide) (fun k hk => ?_)) (by decide) ?_
  · match k, hk with
    | 0, _ => exact hs6_0
    | 1, _ => exact hs6_1
    | 2, _ => exact hs6_2
    | 3, _ => exact hs6_3
    | 4, _ => exact hs6_4
    | 5, _ => exact hs6_5
    | 6, _ => exact hs6_6
    | 7, _ => exact hs6_7
    | 8, _ => exact hs6_8
    | 9, _ => exact hs6_9
    | 10, _ => exact hs6_10
    | 11, _ => exact hs6_11
  refine lv_iconst (v := (-1 : Int32)) hx hb dX1_count_149 (by decide) ?_
  exact hret H locs 150 ls _ _ hI (Option.some.inj hf).symm dX1_count_150
