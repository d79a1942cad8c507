set_option maxRecDepth 100000
section LROWS
variable {p : Program} {l : Launch} {e : Env} {R : Room} {s : State} {m : MethodId} {args : Array Value} {below : List Frame} {meth : Method} {c : Code} {H : Heap} {locs : List Loc} {cells slots : Nat} {Q : State → Prop}
variable {cc : ByteArray} {pc : Nat} {ls : Array Slot} {rest : List Value} {D8 D : va_G} {J : Nat → ClassId} {o z N9 e0 mi : Nat} {aK aV : Nat → Nat} {G Ld : Nat → Prop} {aF : Nat → Nat} {Λ : Nat → Nat → (Nat → Int32) → Int32} {Λn : Nat → Int32} {σ σ' τ : Cs}

theorem qcallO {α : Type} (hx : p.tables.exec = Jvm.exec) (hb : c.code = cc) (hts : ∀ w ∈ lw_all, w.before args s = true) (hst : l.stackTraces = false) {own : String} (hown : s.vm.findClass own = some m.cls) (hL : EL D8 D J o z aK aV G Ld aF Λ Λn e0 mi s) (hI : IP D J o Ld N9 s H locs σ) {nL : Nat} (hml : c.maxLocals = nL) (hlsz : ls.size = nL)
    {y : MethodName} {cd : ByteArray} {nL' fr lo n index b ci N : Nat} {fs : List Value} {C : String} {T : u_T} {ret : Option FieldType} {As : Nat → List Value} {As' : List Value} {Good : va_G → (Nat → ClassId) → (Nat → Prop) → (Nat → Nat) → Nat → α → Heap → Prop} {out : (α × Cs) ⊕ Cs} {K : Kc} (hM : PXo y cd nL' ret fr lo Λ Λn As Good out K σ) (cwl : CallW R s args own C index y cd nL' ret (ws_ y cd nL' ret) ({ frames := fr, cells := K.1, slots := K.2, locals := lo }) K.1 K.2 n) (hat : va_at D vwC (b, .inr (ci, fs)) H) (hcl : vwC[ci]? = some (C, T, N)) (hAs : As o = .ref b :: As')
    (hc : cells + K.1 ≤ R.cells ∧ slots + K.2 ≤ R.slots) (hn : As'.length = n) {st : List Value} (hst0 : st = As'.reverse ++ .ref b :: rest) (hW : 2 * (F0 m pc ls st).monitorRoom + (rest.map fun v => v.category).sum ≤ 8) (hdg : decode cc pc = .ok (.invokevirtual index, 3))
    (kx : ∀ (E : String) (ce : Cell) (q9 : Addr) (σ' : Cs) (H1 : Heap) (locs1 : List Loc), out = .inr σ' → E = RX8 → IP D J o Ld N9 s H1 locs1 σ' → Kp o H H1 → H1[q9]? = some ce → ce.vm = .none → s.vm.findClass E = some ce.cls → vx_W p l e R s m args below meth c H1 locs1 (cells + K.1) (slots + K.2) Q (F0 m pc ls rest) q9)
    (kk : ∀ (a : Nat) (v : α × Cs) (H1 : Heap) (locs1 : List Loc), out = .inl v → IP D J o Ld N9 s H1 locs1 v.2 → Good D J (fun q => H.size ≤ q) aF a v.1 H1 → H.size ≤ H1.size → (∀ q : Nat, q < H.size → ¬ rC o q → H1[q]? = H[q]?) → W p l e R s m args below meth c H1 locs1 (cells + K.1) (slots + K.2) Q (F0 m (pc + 3) ls (.ref a :: rest))) : W p l e R s m args below meth c H locs cells slots Q (F0 m pc ls st) := by
  have hM := hM l D8 D J o z aK aV G Ld aF e0 mi H.size hst
  rw [hAs] at hM
  refine vx_callq (vx_runV (As := As') (rest := rest) ⟨hx, hb, hml, hown, hts⟩ hM cwl ⟨fun a U g mk q => ⟨q.1, q.2.1, q.2.2.go (State.WarmedH.refl U) (fun _ _ _ => rfl)⟩, g_recv hL.1.1.1.1 hat hcl, fun U hU hW => ⟨rfl, ⟨by rw [hU], Nat.lt_of_lt_of_le hI.2.2.2 hI.le, by rw [hU]; exact hI.1⟩, hI.envL hL hU hW⟩⟩ rfl hn hlsz hst0 hW hdg ⟨hc.1, hc.2⟩) hI.2.1 (fun q _ h => AP.mono hI.le q h) (fun q h => AP.mono hI.le q h) (fun q _ h => AP.mono hI.le q h) (fun E ce q9 u t H1 locs1 ht hvm hp hB hz1 hk1 hS h1 h2 h3 => ?_) (fun r u t H1 locs1 ht hvm hp hB hz1 hk1 hS => ?_)
  · exact kx E ce q9 u H1 locs1 hp hB.1 (hI.call (by rw [← ht]; exact hB.2) hS) ⟨hz1, fun q h1 h2 => hk1 q h1 (fun g => by
      rcases g with g | g
      · exact h2 g
      · omega)⟩ h1 h2 h3
  · obtain ⟨rfl, hp⟩ := hp
    rw [ht] at hB
    exact kk u.2 u.1 H1 locs1 hp (hI.call hB.1 hS) hB.2 hz1 (fun q h1 h2 => hk1 q h1 (fun g => by
      rcases g with g | g
      · exact h2 g
      · omega))
theorem pxcallV (hx : p.tables.exec = Jvm.exec) (hb : c.code = cc) (hts : ∀ w ∈ lw_all, w.before args s = true) (hst : l.stackTraces = false) {own : String} (hown : s.vm.findClass own = some m.cls) (hE : ECC D J o z aK aV G Ld aF Λ Λn s) (hT : ThrE z s) (hI : IP D J o Ld N9 s H locs σ) {nL : Nat} (hml : c.maxLocals = nL) (hlsz : ls.size = nL)
    {y : MethodName} {cd : ByteArray} {nL' fr lo mc ms n index b ci N : Nat} {fs : List Value} {C : String} {T : u_T} {ret : Option FieldType} {As : Nat → (Nat → Nat) → (Nat → Nat) → List Value} {As' : List Value} {out : Xo} (hM : CXv y cd nL' ret fr lo mc ms Λ Λn As out σ) (cwl : CallW R s args own C index y cd nL' ret (ws_ y cd nL' ret) ({ frames := fr, cells := mc, slots := ms, locals := lo }) mc ms n) (hat : va_at D vwC (b, .inr (ci, fs)) H) (hcl : vwC[ci]? = some (C, T, N)) (hAs : As o aK aF = .ref b :: As')
    (hc : cells + mc ≤ R.cells ∧ slots + ms ≤ R.slots) (hn : As'.length = n) {st : List Value} (hst0 : st = As'.reverse ++ .ref b :: rest) (hW : 2 * (F0 m pc ls st).monitorRoom + (rest.map fun v => v.category).sum ≤ 8) (hdg : decode cc pc = .ok (.invokevirtual index, 3))
    (kx : ∀ (E : String) (ce : Cell) (q9 : Addr) (n : Nat) (σ' : Cs) (H1 : Heap) (locs1 : List Loc), out = .inr (n, σ') → E = exN n → IP D J o Ld N9 s H1 locs1 σ' → Kp o H H1 → H1[q9]? = some ce → ce.vm = .none → s.vm.findClass E = some ce.cls → vx_W p l e R s m args below meth c H1 locs1 (cells + mc) (slots + ms) Q (F0 m pc ls rest) q9)
    (kk : ∀ (v : Int32 × Cs) (H1 : Heap) (locs1 : List Loc), out = .inl v → IP D J o Ld N9 s H1 locs1 v.2 → W p l e R s m args below meth c H1 locs1 (cells + mc) (slots + ms) Q (F0 m (pc + 3) ls rest)) : W p l e R s m args below meth c H locs cells slots Q (F0 m pc ls st) := by
  have hM := hM l D J o z aK aV G Ld aF hst
  rw [hAs] at hM
  refine vx_callv (vx_runV (As := As') (rest := rest) ⟨hx, hb, hml, hown, hts⟩ hM cwl ⟨fun a U g mk q => ?_, g_recv hE.1.1 hat hcl, fun U hU hW => ⟨rfl, by rw [hU]; exact hI.1, ECX.go ⟨hE, hT⟩ hW (fun q h1 h2 => by rw [hU]; exact hI.old q h1 h2)⟩⟩ rfl hn hlsz hst0 hW hdg ⟨hc.1, hc.2⟩) hI.2.1 (fun q _ h => Or.inl h) (fun q h => Or.inl h) (fun q _ h => Or.inl h) (fun E ce q9 u t H1 locs1 ht hvm hp hB hz1 hk1 hS h1 h2 h3 => ?_) (fun u t H1 locs1 ht hvm hp hB hz1 hk1 hS => ?_)
  · obtain ⟨q0, qP, qE⟩ := q
    exact ⟨q0, qP, qE.go (State.WarmedH.refl U) (fun _ _ _ => rfl)⟩
  · exact kx E ce q9 u.1 u.2 H1 locs1 hp hB.1 (hI.call (by rw [← ht]; exact hB.2) hS) ⟨hz1, fun q h1 h2 => hk1 q h1 h2⟩ h1 h2 h3
  · exact kk (0, u) H1 locs1 hp (hI.call (by rw [← ht]; exact hB) hS)
end LROWS
/-- law() -/
abbrev FcO : Type := (((Nat → FcV) × Int32) × Cs) ⊕ (Nat × Cs)
def X1_law (τ : Cs) : Option (FcO × Kc) :=
  (X3_begins τ).bind fun t => (X1_lawText t).bind fun x => addc x.2 (Sum.elim (fun v => some (.inl (v.1, nuU (uk τ (cou v.2 (mup (co v.2) 1 5 (-1 : Int32)))) 0), (0, 0))) (fun u => (X1_fails u).bind fun y => Sum.elim (fun (_ : Int32 × Cs) => none) (fun (q : Nat × Cs) => some (.inr (q.1, uk τ q.2), (1, 6))) y) x.1)
theorem PC.monoL {D : va_G} {J : Nat → ClassId} {o : Nat} {Ld Ld' : Nat → Prop} {σ : Cs} {H : Heap} (h : PC D J o Ld σ H) (f : ∀ a, Ld a → Ld' a) : PC D J o Ld' σ H := ⟨h.1, h.2.1, fun k hk a ha => f a (h.2.2 k hk a ha)⟩
def lawH : List (Nat × Nat × Nat × Nat) := [(7, 26, 29, 244)]
def LYi (Λ : Nat → Nat → (Nat → Int32) → Int32) (Λn : Nat → Int32) (out : FcO) (K : Kc) (σ : Cs) : Prop :=
  ∀ (l : Launch) (D8 D : va_G) (J : Nat → ClassId) (o z : Nat) (aK aV : Nat → Nat) (G Ld : Nat → Prop) (aF : Nat → Nat) (e0 mi : Nat) (Ur : Nat → Prop) (N : Nat), l.stackTraces = false → vx_Met l yX1_law (wsW_ yX1_law cX1_law 2 (some .int) lawH) ({ frames := 90, cells := K.1, slots := K.2, locals := 6500 }) (va_Pc [.ref o] (fun U => (U.heap.size = N ∧ PC D J o Ld σ U.heap ∧ UP D J o Ld e0 Ur σ U.heap) ∧ (EL D8 D J o z aK aV G Ld aF Λ Λn e0 mi U ∧ UR o z G Ur e0 N) ∧ ThrE z U)) (va_Qi (fun (x : Int32) (u : (((Nat → FcV) × Int32) × Cs) × Nat) => x = u.1.1.2 ∧ out = .inl u.1) (fun u t => PC D J o (fun q => Ld q ∨ q = u.2) (clu u.1.2 0 (some u.2)) t.heap ∧ UP D J o Ld e0 (fun q => Ur q ∧ q < N) u.1.2 t.heap ∧ LawAt D J (fun q => N ≤ q) aF u.2 u.1.1.1 u.1.1.2 t.heap) (AU o Ur N)) (vx_X (fun (u : Nat × Cs) => out = .inr u) (fun E u t => E = exN u.1 ∧ PC D J o Ld u.2 t.heap ∧ UP D J o Ld e0 (fun q => Ur q ∧ q < N) u.2 t.heap) (AU o Ur N)) K.1 K.2 (AU o Ur N)
set_option maxHeartbeats 4000000 in
theorem mX1_law (Λ : Nat → Nat → (Nat → Int32) → Int32) (Λn : Nat → Int32) (τ : Cs) (out : FcO) (T : Kc) (hf : X1_law τ = some (out, T)) : LYi Λ Λn out T τ := by
  intro l D8 D J o z aK aV G Ld aF e0 mi Ur N hst
  refine vx_ofWH (cc := cX1_law) (maxL := 2) (ret := some .int) (hh := lawH) (by decide) rfl ?_
  intro p e s m args below meth c s₁ B hml hv
  obtain ⟨rfl, ⟨hN, hP, hU0⟩, ⟨hL, hUR⟩, hT⟩ := hv
  have hts := atoms_spec (ws := wsW_ yX1_law cX1_law 2 (some .int) lawH) B.pre
  have htab := vx_table (x := yX1_law) B (hts _ List.mem_cons_self)
  have hts : ∀ w ∈ lw_all, w.before _ s = true := fun w h => hts w (List.mem_cons_of_mem _ h)
  have hl := lv_entry [.ref o] (n := 2) (Nat.le_of_ble_eq_true rfl)
  rw [lg_entry_eq]
  generalize (lg_sl [.ref o] ++ List.replicate (2 - (lg_sl [.ref o]).length) Slot.unset).toArray = ls at hl ⊢
  have hl : lv_has ls 2 [(0, .ref o)] := hl
  have hown := findClass_of_methodNamed B.named
  have hown : s.vm.findClass RX1 = some m.cls := hown
  have hx := B.exec
  have hb := B.bytes
  have hE := hL.1.1
  have hEQ : EQ aK aV e0 mi D J z s := hL.2.1
  have hoN := hUR.2.2.1
  have hI : IP D J o Ld N s s.heap [] τ := ⟨hP, va_S.rf, hN, hoN⟩
  obtain ⟨H, eH⟩ : ∃ H, H = s.heap := ⟨_, rfl⟩
  obtain ⟨locs, eL⟩ : ∃ L : List Loc, L = [] := ⟨_, rfl⟩
  replace hU0 : UP D J o Ld e0 (fun q => Ur q ∧ q < N) τ H := by
    rw [eH, ← hN]
    exact hU0.cut
  rw [← eH, ← eL] at hI ⊢
  clear hP
  have hus : ∀ q, (q = o + 85 ∨ (Ur q ∧ q < N) ∨ q = e0) → ¬ rC o q := fun q h => hUR.us q (by
    rcases h with h | h | h
    · exact Or.inl h
    · exact Or.inr (Or.inl (Or.inl h.1))
    · exact Or.inr (Or.inr h))
  have hAU : ∀ q, AP o N q → AU o Ur N q := fun q h => by
    rcases h with h | h
    · exact Or.inl h
    · exact Or.inr (Or.inr (Or.inr h))
  have mvS : ∀ {H : Heap} {locs : List Loc}, va_S (AP o N) s.heap H locs → va_S (AU o Ur N) s.heap H locs := fun h => ⟨h.1, fun q h1 h2 => h.2.1 q h1 (fun g => h2 (hAU q g)), fun l hl => hAU _ (h.2.2 l hl)⟩
  have hu1 : 0 + T.1 = T.1 := Nat.zero_add _
  have hu2 : 0 + T.2 = T.2 := Nat.zero_add _
  unfold X1_law at hf
  refine lv_aload_n hx hb dX1_law_0 rfl (lv_at hl 0 rfl) ?_
  refine gget hx hb hts in_X1 hown hE.1.1 (hI.1.o 0 rfl) rfl 4 (by decide) q469 rfl dX1_law_1 ?_
  obtain ⟨t4, et4, hf⟩ := obd hf
  refine qccallV (rest := []) hx hb hts hown hE hI hml hl.1 (mX3_begins Λ Λn τ _ et4) (cwX3_begins_X1 hts ⟨Nat.le_of_ble_eq_true rfl, Nat.le_of_ble_eq_true rfl⟩) (hI.1.o 1 rfl) rfl rfl ⟨leC hu1, leC hu2⟩ rfl rfl (lv_room (Nat.le_of_ble_eq_true rfl)) dX1_law_4 (fun H1 locs1 hI hk => ?_)
  replace hU0 := hU0.kept (fun q h1 h2 => hk.2 q h1 (hus q h2))
  clear hk
  refine lv_aload_n hx hb dX1_law_7 rfl (lv_at hl 0 rfl) ?_
  refine gget hx hb hts in_X1 hown hE.1.1 (hI.1.o 0 rfl) rfl 0 (by decide) q463 rfl dX1_law_8 ?_
  refine lv_aload_n hx hb dX1_law_11 rfl (lv_at hl 0 rfl) ?_
  obtain ⟨⟨xo, K⟩, ex, hf⟩ := obd hf
  obtain ⟨C2, hf, eC1, eC2⟩ := addc_e hf
  replace eC1 : T.1 = K.1 + C2.1 := eC1
  replace eC2 : T.2 = K.2 + C2.2 := eC2
  have hle := hI.le
  refine qcallO (rest := [.ref (wA o 0)]) hx hb hts hst hown hL hI hml hl.1 (mX1_lawText Λ Λn t4 _ _ ex) (cwV 0 hts (lw_V q1400 q1402 qs28 q133 q1403) rfl rfl rfl (by decide +kernel) ⟨(by show (62) + 1 ≤ 90; omega), (by show 8 + (2 + 11) + (5100) ≤ 6500; omega)⟩) (hI.1.o 0 rfl) rfl rfl ⟨(show 0 + K.1 ≤ T.1 by omega), (show 0 + K.2 ≤ T.2 by omega)⟩ rfl rfl (lv_room (Nat.le_of_ble_eq_true rfl)) dX1_law_12 (fun E ce q9 σ' H2 locs2 ho hn hI hk h1 h2 h3 => ?_) (fun a v H2 locs2 ho hI hG hz2 hk2 => ?_)
  · subst ho
    replace hf := selR hf
    replace hU0 := hU0.kept (fun q h1 h2 => hk.2 q h1 (hus q h2))
    clear hk
    obtain ⟨cu, ecu⟩ : ∃ n, n = 0 + K.1 := ⟨_, rfl⟩
    obtain ⟨su, esu⟩ : ∃ n, n = 0 + K.2 := ⟨_, rfl⟩
    rw [← ecu, ← esu]
    replace hu1 : cu + C2.1 = T.1 := by omega
    replace hu2 : su + C2.2 = T.2 := by omega
    subst hn
    refine vx_catch hown [] ⟨7, 26, 29, 244⟩ [] (by rw [htab]; rfl) (fun z hz => by cases hz) (by decide) (by decide) (hts _ q837) (cast_self h3) h1 h2 h3 ?_
    refine lv_astore_n (lv' := [(1, .ref q9), (0, .ref o)]) hx hb dX1_law_29 rfl hl (by decide) rfl (fun ls hl => ?_)
    refine lv_aload_n hx hb dX1_law_30 rfl (lv_at hl 1 rfl) ?_
    obtain ⟨y24, ey24, hf⟩ := obd hf
    rcases y24 with r9 | r9
    · replace hf := selL hf
      cases hf
    replace hf := selR hf
    obtain ⟨ho9, hK⟩ := prg_e hf
    have hK1 : C2.1 = 1 := congrArg Prod.fst hK
    have hK2 : C2.2 = 6 := congrArg Prod.snd hK
    refine pxcallV (rest := []) hx hb hts hst hown hE hT hI hml hl.1 (mX1_fails Λ Λn _ _ ey24) (cwX1_fails_X1 hts ⟨Nat.le_of_ble_eq_true rfl, Nat.le_of_ble_eq_true rfl⟩) (hI.1.o 0 rfl) rfl rfl ⟨(show cu + 1 ≤ T.1 by omega), (show su + 6 ≤ T.2 by omega)⟩ rfl rfl (lv_room (Nat.le_of_ble_eq_true rfl)) dX1_law_31 (fun E ce q8 n9 σ' H3 locs3 ho hn hI hk h1 h2 h3 => ?_) (fun v9 H locs ho hI => ?_)
    · cases ho
      replace hU0 := hU0.kept (fun q h1 h2 => hk.2 q h1 (hus q h2))
      refine vx_out (by rw [htab]; decide) B.notSynchronized h1 h2 h3 (fun t ht _ => ⟨_, ho9, ⟨hn, by rw [ht]; exact ⟨hI.1.toUk, hU0.same (uSame_uk _ _)⟩⟩, (mvS hI.2.1).F ht⟩) (mvS hI.2.1).2.2 (show cu + 1 ≤ T.1 by omega) (show su + 6 ≤ T.2 by omega)
    · cases ho
  · subst ho
    replace hf := selL hf
    have hkk : Kp o H1 H2 := ⟨hz2, hk2⟩
    replace hU0 := hU0.kept (fun q h1 h2 => hk2 q h1 (hus q h2))
    replace hG : LawAt D J (fun q => N ≤ q) aF a v.1.1 v.1.2 H2 := LawAt.mono hG (fun q h => Nat.le_trans hle h)
    clear hk2 hz2 hkk hle
    obtain ⟨cu, ecu⟩ : ∃ n, n = 0 + K.1 := ⟨_, rfl⟩
    obtain ⟨su, esu⟩ : ∃ n, n = 0 + K.2 := ⟨_, rfl⟩
    rw [← ecu, ← esu]
    replace hu1 : cu + C2.1 = T.1 := by omega
    replace hu2 : su + C2.2 = T.2 := by omega
    have hna : ∀ q, N ≤ q → ¬ rC o q := fun q h => hI.notC h
    refine gputN hx hb hts in_X2 tyX2 tyX2_ok nmX2 hown hE.1.1 (hI.1.w 0 (by decide) 0 rfl) rfl 28 (by decide) (hE.1.2.2.f 35 rfl) rfl rfl rfl (Nat.le_of_ble_eq_true rfl) dX1_law_15 (fun H3 locs3 h1 h2 h3 h4 => ?_)
    have hwr : rC o (wA o 0) := rW_rC (by decide) _ ⟨Nat.le_refl _, by omega⟩
    have hI3 : IP D J o (fun q => Ld q ∨ q = a) N s H3 locs3 (clu v.2 0 (some a)) := by
      refine ⟨(hI.1.monoL (fun q h => Or.inl h)).setW (k := 0) (by decide) ?_ (fun q _ h9 => h3 q (fun e => h9 (by rw [e]; exact ⟨Nat.le_refl _, by omega⟩))) (fun i hi => ⟨rfl, if_neg hi⟩) ⟨rfl, rfl⟩ (fun b hb => Or.inr (Option.some.inj hb).symm), va_S.one hI.2.1 (Or.inl hwr) h2 h3 h4, hI.2.2⟩
      exact (show va_P D vwC ((ctW J (wA o 0) (cl v.2 0) (cw v.2 0)).set 0 (wA o 0, .inr (1, (fsW (wA o 0) (cl v.2 0) (cw v.2 0)).set 28 (.ref a)))) H3 from (hI.1.1 0 (by decide)).set ctW_D (show (ctW J (wA o 0) (cl v.2 0) (cw v.2 0))[0]? = some (wA o 0, .inr (1, fsW (wA o 0) (cl v.2 0) (cw v.2 0))) from rfl) h1 h3)
    replace hG := hG.kept (H1 := H3) (fun q _ h9 => h3 q (fun e => hna q h9 (by rw [e]; exact hwr)))
    replace hU0 := hU0.kept (H1 := H3) (fun q _ h9 => h3 q (fun e => hus q h9 (by rw [e]; exact hwr)))
    clear hI h1 h2 h3 h4
    have hI := hI3
    clear hI3
    refine lv_aload_n hx hb dX1_law_18 rfl (lv_at hl 0 rfl) ?_
    refine gget hx hb hts in_X1 hown hE.1.1 (hI.1.o 0 rfl) rfl 4 (by decide) q469 rfl dX1_law_19 ?_
    refine lv_iconst (v := (-1 : Int32)) hx hb dX1_law_22 (by decide) ?_
    refine gputN hx hb hts in_X3 tyX3 tyX3_ok nmX3 hown hE.1.1 (hI.1.o 1 rfl) rfl 5 (by decide) (hE.1.2.2.f 39 rfl) rfl rfl rfl (Nat.le_of_ble_eq_true rfl) dX1_law_23 (fun H4 locs4 h1 h2 h3 h4 => ?_)
    have hrr : rC o (o + 61) := ⟨by omega, by omega, by omega⟩
    have hI4 := hI.putO (σ' := clu (cou v.2 (mup (co v.2) 1 5 (-1 : Int32))) 0 (some a)) (P := 1) rfl rfl ⟨rfl, rfl⟩ h1 h2 h3 h4
    replace hG := hG.kept (H1 := H4) (fun q _ h9 => h3 q (fun e => hna q h9 (by rw [e]; exact hrr)))
    replace hU0 := hU0.kept (H1 := H4) (fun q _ h9 => h3 q (fun e => hus q h9 (by rw [e]; exact hrr)))
    clear hI h1 h2 h3 h4
    have hI := hI4
    clear hI4
    refine lv_goto (tgt := 34) hx hb dX1_law_26 (by decide) ?_
    refine lv_aload_n hx hb dX1_law_34 rfl (lv_at hl 0 rfl) ?_
    refine gget hx hb hts in_X1 hown hE.1.1 (hI.1.o 0 rfl) rfl 8 (by decide) q474 rfl dX1_law_35 ?_
    obtain ⟨n, cap, arr, mc, u, a1, a2, a3, a4, a5, a6, a7, a8, a9, a10⟩ := hU0
    have hzo := hUR.2.2.2.1
    have us1 : ∀ q, (Ur q ∧ q < N) → ¬ rC o q ∧ q ≠ o + 85 ∧ z ≤ q := fun q h => ⟨hus q (Or.inr (Or.inl h)), (hUR.1 q h.1).2.2, (hUR.1 q h.1).1⟩
    have harr : arr ≠ o + 85 := by
      rcases Nat.eq_zero_or_pos cap with g | g
      · have := a5 g
        have := hUR.2.2.2.2
        omega
      · exact (us1 arr (a6 g)).2.1
    have hS4 := mvS hI.2.1
    refine va_callv (va_runV (As := []) (rest := []) ⟨hx, hb, hml, hown, hts⟩ (mJ3_clear l D J z aK aV e0 mi (o + 85) arr cap n mc (lsF n u) a3 (by omega) (by omega) (fun g => (us1 arr (a6 (by omega))).2.2) harr) (cwJ3_clear_X1 hts ⟨Nat.le_of_ble_eq_true rfl, Nat.le_of_ble_eq_true rfl⟩) ⟨fun a U g mk q => ⟨q.1, q.2.1, q.2.2.go (State.WarmedH.refl U) (fun _ _ _ => rfl)⟩, g_recv hE.1.1 a7 rfl, fun U hU hW => ⟨rfl, by rw [hU]; exact ⟨a7, a8⟩, hEQ.go hW (fun q h1 h2 => by rw [hU]; exact hI.old q h1 (fun h3 => h2 (Nat.le_trans hzo h3.1)))⟩⟩ rfl rfl hl.1 rfl (lv_room (Nat.le_of_ble_eq_true rfl)) dX1_law_38 ⟨leC hu1, leC hu2⟩) hS4 (fun q _ h => ?_) (fun q h => ?_) (fun u9 t H5 locs5 ht hvm hp hB hz1 hk1 hS => ?_)
    · rcases h with h | h
      · exact Or.inr (Or.inl h)
      · rw [h.1]
        exact Or.inr (Or.inr (Or.inl (a6 (by omega)).1))
    · rcases h with h | h
      · exact Or.inr (Or.inl h)
      · rw [h.1]
        exact Or.inr (Or.inr (Or.inl (a6 (by omega)).1))
    rw [ht] at hB
    obtain ⟨d7, d8⟩ := hB
    have e8 : (fun j => if j < n then none else lsF n u j) = lsF 0 u := by
      funext j
      unfold lsF
      by_cases g : j < n
      · rw [if_pos g, if_neg (Nat.not_lt_zero _)]
      · rw [if_neg g, if_neg g, if_neg (Nat.not_lt_zero _)]
    rw [e8] at d8
    have hP5 : PC D J o (fun q => Ld q ∨ q = a) (clu (nuU (uk τ (cou v.2 (mup (co v.2) 1 5 (-1 : Int32)))) 0) 0 (some a)) H5 := by
      refine (hI.1.kept (fun q h1 h2 => hk1 q h1 (fun g => ?_))).w5 (fun k hk => ⟨if_pos hk, ?_⟩) rfl
      · rcases g with g | g
        · exact h2.2.2 g
        · exact (us1 arr (a6 (by omega))).1 (g.1 ▸ h2)
      · show (if k = 0 then some a else if k < 5 then cl v.2 k else cl τ k) = if k = 0 then some a else cl v.2 k
        by_cases e : k = 0
        · rw [if_pos e, if_pos e]
        · rw [if_neg e, if_neg e, if_pos hk]
    have hU5 : UP D J o Ld e0 (fun q => Ur q ∧ q < N) (nuU (uk τ (cou v.2 (mup (co v.2) 1 5 (-1 : Int32)))) 0) H5 := ⟨0, cap, arr, mc + 1, u, rfl, by omega, by omega, a4, a5, a6, d7, d8, fun i hi => by omega, fun i j hi => by omega⟩
    have hG5 := hG.kept (H1 := H5) (fun (q : Nat) hq (h9 : N ≤ q) => hk1 q hq (fun g => by
      rcases g with g | g
      · have g8 : q = o + 85 := g
        omega
      · have g8 : q = arr := g.1
        have := (a6 (by omega)).2
        omega))
    refine lv_aload_n hx hb dX1_law_41 rfl (lv_at hl 0 rfl) ?_
    refine gget hx hb hts in_X1 hown hE.1.1 (hP5.o 0 rfl) rfl 0 (by decide) q463 rfl dX1_law_42 ?_
    refine ggetN hx hb hts in_X2 hown hE.1.1 (hP5.w 0 (by decide) 0 rfl) rfl 28 (by decide) (hE.1.2.2.f 35 rfl) rfl dX1_law_45 ?_
    obtain ⟨hga, lst, n9, els, kd, nn, ww, b1, b2, b3, b4, b5, b6, b7, b8⟩ := id hG5
    refine ggetN hx hb hts in_X9 hown hE.1.1 b1 rfl 0 (by decide) (hE.1.2.2.f 57 rfl) rfl dX1_law_48 ?_
    have hsz : ∃ vv ww : Value, va_at D vwC (lst, .inr (6, [vv, ww, .int (nI n9)])) H5 := by
      rcases Nat.eq_zero_or_pos n9 with g | g
      · subst g
        exact b3 rfl
      · obtain ⟨-, mc9, arr9, cap9, f9, -, h1, -⟩ := b4 g
        exact ⟨_, _, h1⟩
    obtain ⟨vv, ww9, hsz⟩ := hsz
    have hSz5 : va_S (zZ z) s.heap H5 locs5 := ⟨hS.1, fun q h1 h2 => hS.2.1 q h1 (fun g => h2 (hUR.za q g)), fun l hl => hUR.za _ (hS.2.2 l hl)⟩
    refine rcallI (rest := []) hx hb hts hown hml hl.1 (mJ3_size D J z aK aV lst vv ww9 (nI n9)) (cwJ3_size_X1 hts ⟨Nat.le_of_ble_eq_true rfl, Nat.le_of_ble_eq_true rfl⟩) EC.keep.and (g_recv hE.1.1 hsz rfl) (fun U hU hW => ⟨hE.1.go hW (fun q h1 h2 => by rw [hU]; exact hSz5.2.1 q h1 h2), by rw [hU]; exact hsz⟩) ⟨leC hu1, leC hu2⟩ rfl rfl (lv_room (Nat.le_of_ble_eq_true rfl)) dX1_law_51 ?_
    obtain ⟨ho, -⟩ := prg_e hf
    refine vx_ret ?_
    exact W.widen (k := T.1) (n := T.2) (leC hu1) (leC hu2) (W.iret B.exec B.bytes B.returns (fun t ht hW => ⟨⟨_, ((v.1, (nuU (uk τ (cou v.2 (mup (co v.2) 1 5 (-1 : Int32)))) 0)), a), rfl, ⟨b7.symm, ho⟩, by show PC D J o (fun q => Ld q ∨ q = a) (clu (nuU (uk τ (cou v.2 (mup (co v.2) 1 5 (-1 : Int32)))) 0) 0 (some a)) t.heap ∧ UP D J o Ld e0 (fun q => Ur q ∧ q < N) (nuU (uk τ (cou v.2 (mup (co v.2) 1 5 (-1 : Int32)))) 0) t.heap ∧ LawAt D J (fun q => N ≤ q) aF a v.1.1 v.1.2 t.heap; rw [ht]; exact ⟨hP5, hU5, hG5⟩⟩, hS.F ht⟩) hS.2.2 dX1_law_54 B.notSynchronized)
