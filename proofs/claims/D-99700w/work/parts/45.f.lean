/-- an array of five beside the picture -/
def IA (D : va_G) (J : Nat → ClassId) (o : Nat) (Ld : Nat → Prop) (s : State) (q5 : Nat) (f5 : Nat → Int32) (H : Heap) (locs : List Loc) (σ : Cs) : Prop := PC D J o Ld σ H ∧ va_S (rC o) s.heap H locs ∧ va_at D vwC (q5, .inl (J 0, 5, .inl f5)) H ∧ ¬ rC o q5
abbrev cst5 (f5 : Nat → Int32) (_ : Cs) : Nat → Int32 := f5
theorem IA.putO {D : va_G} {J : Nat → ClassId} {o : Nat} {Ld : Nat → Prop} {s : State} {q5 : Nat} {f5 : Nat → Int32} {H H1 : Heap} {locs locs1 : List Loc} {σ σ' : Cs} (hI : IA D J o Ld s q5 f5 H locs σ) {P a : Nat} {e0 e1 : va_E} (h0 : (ctO J o σ)[P]? = some (a, e0)) (hs : (ctO J o σ).set P (a, e1) = ctO J o σ') (h1 : cw σ' = cw σ ∧ cl σ' = cl σ) (hat : va_at D vwC (a, e1) H1) (hz : H1.size = H.size) (hq : ∀ q : Nat, q ≠ a → H1[q]? = H[q]?) (hl : ∀ l ∈ locs1, l ∈ locs ∨ l.base = a) : IA D J o Ld s q5 f5 H1 locs1 σ' :=
  ⟨hI.1.setO h0 hs hat hq h1, va_S.one hI.2.1 (rO_rC h0) hz hq hl, hI.2.2.1.kept (hq _ (fun e => hI.2.2.2 (by have e2 : q5 = a := e; rw [e2]; exact rO_rC h0))), hI.2.2.2⟩
def X3_add_L39 (f5 : Nat → Int32) (c4 : Int32) (c5 : Int32) (w39 : Cs × Int32) : Option ((Cs × Int32) ⊕ (Cs)) :=
  if w39.2 < (0 : Int32) then
    some (.inr w39.1)
  else
    (stof 400 (co w39.1 2) (co w39.1 1 1) ((c5 >>> (w39.2 &&& (31 : Int32))).toInt8.toInt32)).bind fun g58 =>
    (some (cou w39.1 (mset (co w39.1) 2 g58))).bind fun t58 =>
    (some (cou t58 (mup (co t58) 1 1 ((co t58 1 1) + (1 : Int32))))).bind fun t66 =>
    (some (w39.2 + (-8 : Int32))).bind fun v69 =>
    some (.inl (t66, v69))
def X3_add_L23 (f5 : Nat → Int32) (w23 : Cs × Int32) : Option ((Cs × Int32) ⊕ (Cs)) :=
  if (5 : Int32) ≤ w23.2 then
    some (.inr w23.1)
  else
    (ld 5 (cst5 f5 w23.1) w23.2).bind fun x32 =>
    (loopO (X3_add_L39 f5 w23.2 x32) FU (w23.1, (24 : Int32))).bind fun e39 =>
    (some (w23.2 + (1 : Int32))).bind fun v75 =>
    some (.inl (e39, v75))
def X3_add (f5 : Nat → Int32) (τ : Cs) : Option (Int32 × Cs) :=
  if ((co τ 1 1) + (20 : Int32)) ≤ (400 : Int32) then
    (loopO (X3_add_L23 f5) FU (τ, (0 : Int32))).bind fun e23 =>
    some ((co e23 1 1), e23)
  else
    some ((-1 : Int32), τ)
set_option maxHeartbeats 4000000 in
theorem mX3_add (Λ : Nat → Nat → (Nat → Int32) → Int32) (Λn : Nat → Int32) (τ : Cs) (f5 : Nat → Int32) (r : Int32) (τ' : Cs) (hf : X3_add f5 τ = some (r, τ')) : ∀ (l : Launch) (D : va_G) (J : Nat → ClassId) (o z : Nat) (aK aV : Nat → Nat) (G Ld : Nat → Prop) (aF : Nat → Nat) (q5 : Nat), Met l yX3_add (ws_ yX3_add cX3_add 7 (some .int)) ({ frames := 1, cells := 0, slots := 0, locals := 40 }) (va_Pc [.ref (o + 61), .ref q5] (fun U => (PC D J o Ld τ U.heap ∧ va_at D vwC (q5, .inl (J 0, 5, .inl f5)) U.heap ∧ ¬ rC o q5) ∧ ECC D J o z aK aV G Ld aF Λ Λn U)) (va_Qi (fun (x : Int32) (_ : Unit) => x = r) (fun _ t => PC D J o Ld τ' t.heap) (rC o)) 0 0 (rC o) := by
  intro l D J o z aK aV G Ld aF q5
  refine Met.ofW (cc := cX3_add) (maxL := 7) (ret := some .int) (by decide) rfl ?_
  intro p e s m args below meth c s₁ B hml hv
  obtain ⟨rfl, ⟨hP, h5, hn5⟩, hE⟩ := hv
  have hts := atoms_spec (ws := ws_ yX3_add cX3_add 7 (some .int)) B.pre
  have hts : ∀ w ∈ lw_all, w.before _ s = true := fun w h => hts w (List.mem_cons_of_mem _ h)
  have hown : s.vm.findClass RX3 = some m.cls := findClass_of_methodNamed B.named
  have hl := lv_entry [.ref (o + 61), .ref q5] (n := 7) (Nat.le_of_ble_eq_true rfl)
  rw [lg_entry_eq]
  generalize (lg_sl [.ref (o + 61), .ref q5] ++ List.replicate (7 - (lg_sl [.ref (o + 61), .ref q5]).length) Slot.unset).toArray = ls at hl ⊢
  have hx := B.exec
  have hb := B.bytes
  have hI : IA D J o Ld s q5 f5 s.heap [] τ := ⟨hP, va_S.rf, h5, hn5⟩
  have hret : ∀ (H : Heap) (locs : List Loc) (pc : Nat) (ls : Array Slot), IA D J o Ld s q5 f5 H locs τ' → decode cX3_add pc = .ok (.ireturn, 1) → W p l e ({ frames := 1, cells := 0, slots := 0, locals := 40 } : Room) s m #[Value.ref (o + 61), Value.ref q5] below meth c H locs 0 0 (MQ below (va_Qi (fun (x : Int32) (_ : Unit) => x = r) (fun _ t => PC D J o Ld τ' t.heap) (rC o)) #[Value.ref (o + 61), Value.ref q5] s 0 0 (rC o)) (F0 m pc ls [.int r]) := fun H locs pc ls hI hdg => W.iret (Qc := va_Qi (fun (x : Int32) (_ : Unit) => x = r) (fun _ t => PC D J o Ld τ' t.heap) (rC o)) (free := rC o) B.exec B.bytes B.returns (fun t ht hW => ⟨⟨r, (), rfl, rfl, by show PC D J o Ld τ' t.heap; rw [ht]; exact hI.1⟩, hI.2.1.F ht⟩) hI.2.1.2.2 hdg B.notSynchronized
  generalize MQ below (va_Qi (fun (x : Int32) (_ : Unit) => x = r) (fun _ t => PC D J o Ld τ' t.heap) (rC o)) #[Value.ref (o + 61), Value.ref q5] s 0 0 (rC o) = Q at hret ⊢
  clear B
  generalize #[Value.ref (o + 61), Value.ref q5] = args at hret hts ⊢
  obtain ⟨H, eH⟩ : ∃ H, H = s.heap := ⟨_, rfl⟩
  obtain ⟨locs, eL⟩ : ∃ L : List Loc, L = [] := ⟨_, rfl⟩
  rw [← eH, ← eL] at hI ⊢
  have hl : lv_has ls 7 [(0, .ref (o + 61)), (1, .ref q5)] := hl
  unfold X3_add at hf
  refine lv_aload_n hx hb dX3_add_0 rfl (lv_at hl 0 rfl) ?_
  refine gget hx hb hts in_X3 hown hE.1.1 (hI.1.o 1 rfl) rfl 1 (by decide) q328 rfl dX3_add_1 ?_
  refine lv_bipush (v := (20 : Int32)) hx hb dX3_add_4 (by decide) ?_
  refine lv_iadd hx hb dX3_add_6 ?_
  refine lv_sipush (v := (400 : Int32)) hx hb dX3_add_7 (by decide) ?_
  refine lv_icmp_le (tgt := 15) hx hb dX3_add_10 (by decide) (fun hc => ?_) (fun hc => ?_)
  · replace hf := ipos hc hf
    refine lv_aload_n hx hb dX3_add_15 rfl (lv_at hl 1 rfl) ?_
    refine lv_astore_n (lv' := [(2, .ref q5), (0, .ref (o + 61)), (1, .ref q5)]) hx hb dX3_add_16 rfl hl (by decide) rfl (fun ls hl => ?_)
    refine lv_aload_n hx hb dX3_add_17 rfl (lv_at hl 0 rfl) ?_
    refine va_alen (v := (5 : Int32)) hx hb hE.1.1 (va_P1 hI.2.2.1) 0 0 rfl rfl rfl dX3_add_18 ?_
    refine lv_istore_n (lv' := [(3, .int (5 : Int32)), (2, .ref q5), (0, .ref (o + 61)), (1, .ref q5)]) hx hb dX3_add_19 rfl hl (by decide) rfl (fun ls hl => ?_)
    refine lv_iconst (v := (0 : Int32)) hx hb dX3_add_20 (by decide) ?_
    refine lv_istore (lv' := [(4, .int (0 : Int32)), (3, .int (5 : Int32)), (2, .ref q5), (0, .ref (o + 61)), (1, .ref q5)]) hx hb dX3_add_21 hl (by decide) rfl (fun ls hl => ?_)
    obtain ⟨e23, he23, hf⟩ := obd hf
    refine loopO_W (Wat := fun w23 => ∀ (H : Heap) (locs : List Loc) (ls : Array Slot), IA D J o Ld s q5 f5 H locs w23.1 → lv_has ls 7 [(0, .ref (o + 61)), (2, .ref q5), (3, .int (5 : Int32)), (4, .int w23.2)] → W p l e ({ frames := 1, cells := 0, slots := 0, locals := 40 } : Room) s m args below meth c H locs 0 0 Q (F0 m 23 ls [])) (Wex := fun ex_ => ∀ (H : Heap) (locs : List Loc) (ls : Array Slot), IA D J o Ld s q5 f5 H locs ex_ → lv_has ls 7 [(0, .ref (o + 61))] → W p l e ({ frames := 1, cells := 0, slots := 0, locals := 40 } : Room) s m args below meth c H locs 0 0 Q (F0 m 81 ls [])) (fun w23 o23 hf hk hq => ?_) FU _ e23 he23 ?_ H locs ls hI (lv_sub hl [3, 2, 1, 0] rfl)
    · intro H locs ls hI hl
      unfold X3_add_L23 at hf
      refine lv_iload hx hb dX3_add_23 (lv_at hl 3 rfl) ?_
      refine lv_iload_n hx hb dX3_add_25 rfl (lv_at hl 2 rfl) ?_
      refine lv_icmp_ge (tgt := 81) hx hb dX3_add_26 (by decide) (fun hc => ?_) (fun hc => ?_)
      · replace hf := ipos hc hf
        exact hq _ (Option.some.inj hf).symm H locs ls hI (lv_sub hl [0] rfl)
      · replace hf := ineg hc hf
        refine lv_aload_n hx hb dX3_add_29 rfl (lv_at hl 1 rfl) ?_
        refine lv_iload hx hb dX3_add_30 (lv_at hl 3 rfl) ?_
        obtain ⟨x32, ex32, hf⟩ := obd hf
        refine gald hx hb hE.1.1 0 hI.2.2.1 rfl ex32 dX3_add_32 ?_
        refine lv_istore (lv' := [(5, .int x32), (0, .ref (o + 61)), (2, .ref q5), (3, .int (5 : Int32)), (4, .int w23.2)]) hx hb dX3_add_33 hl (by decide) rfl (fun ls hl => ?_)
        refine lv_bipush (v := (24 : Int32)) hx hb dX3_add_35 (by decide) ?_
        refine lv_istore (lv' := [(6, .int (24 : Int32)), (5, .int x32), (0, .ref (o + 61)), (2, .ref q5), (3, .int (5 : Int32)), (4, .int w23.2)]) hx hb dX3_add_37 hl (by decide) rfl (fun ls hl => ?_)
        obtain ⟨e39, he39, hf⟩ := obd hf
        have hs39 : ∀ (c4 : Int32) (c5 : Int32), ∀ (w39 : Cs × Int32) (o39 : (Cs × Int32) ⊕ (Cs)), X3_add_L39 f5 c4 c5 w39 = some o39 → (∀ wx_, o39 = .inl wx_ → ∀ (H : Heap) (locs : List Loc) (ls : Array Slot), IA D J o Ld s q5 f5 H locs wx_.1 → lv_has ls 7 [(0, .ref (o + 61)), (2, .ref q5), (3, .int (5 : Int32)), (4, .int c4), (5, .int c5), (6, .int wx_.2)] → W p l e ({ frames := 1, cells := 0, slots := 0, locals := 40 } : Room) s m args below meth c H locs 0 0 Q (F0 m 39 ls [])) → (∀ ex_, o39 = .inr ex_ → ∀ (H : Heap) (locs : List Loc) (ls : Array Slot), IA D J o Ld s q5 f5 H locs ex_ → lv_has ls 7 [(0, .ref (o + 61)), (2, .ref q5), (3, .int (5 : Int32)), (4, .int c4)] → W p l e ({ frames := 1, cells := 0, slots := 0, locals := 40 } : Room) s m args below meth c H locs 0 0 Q (F0 m 75 ls [])) → ∀ (H : Heap) (locs : List Loc) (ls : Array Slot), IA D J o Ld s q5 f5 H locs w39.1 → lv_has ls 7 [(0, .ref (o + 61)), (2, .ref q5), (3, .int (5 : Int32)), (4, .int c4), (5, .int c5), (6, .int w39.2)] → W p l e ({ frames := 1, cells := 0, slots := 0, locals := 40 } : Room) s m args below meth c H locs 0 0 Q (F0 m 39 ls []) := by
          intro c4 c5 w39 o39 hf hk hq H locs ls hI hl
          unfold X3_add_L39 at hf
          refine lv_iload hx hb dX3_add_39 (lv_at hl 5 rfl) ?_
          refine lv_if_lt (tgt := 75) hx hb dX3_add_41 (by decide) (fun hc => ?_) (fun hc => ?_)
          · replace hf := ipos hc hf
            exact hq _ (Option.some.inj hf).symm H locs ls hI (lv_sub hl [0, 1, 2, 3] rfl)
          · replace hf := ineg hc hf
            refine lv_aload_n hx hb dX3_add_44 rfl (lv_at hl 0 rfl) ?_
            refine gget hx hb hts in_X3 hown hE.1.1 (hI.1.o 1 rfl) rfl 0 (by decide) q326 rfl dX3_add_45 ?_
            refine lv_aload_n hx hb dX3_add_48 rfl (lv_at hl 0 rfl) ?_
            refine gget hx hb hts in_X3 hown hE.1.1 (hI.1.o 1 rfl) rfl 1 (by decide) q328 rfl dX3_add_49 ?_
            refine lv_iload hx hb dX3_add_52 (lv_at hl 4 rfl) ?_
            refine lv_iload hx hb dX3_add_54 (lv_at hl 5 rfl) ?_
            refine lv_ishr hx hb dX3_add_56 ?_
            refine lv_i2b (v := (c5 >>> (w39.2 &&& (31 : Int32))).toInt8.toInt32) hx hb dX3_add_57 rfl ?_
            obtain ⟨g58, eg58, hf⟩ := obd hf
            obtain ⟨t58, et58, hf⟩ := obd hf
            refine gbst hx hb hE.1.1 2 (hI.1.o 2 rfl) rfl (pk_nb _) eg58 dX3_add_58 (fun H locs h1 h2 h3 h4 => ?_)
            have hI := hI.putO (σ' := cou w39.1 (mset (co w39.1) 2 g58)) (P := 2) rfl rfl ⟨rfl, rfl⟩ h1 h2 h3 h4
            rw [Option.some.inj et58] at hI
            refine lv_aload_n hx hb dX3_add_59 rfl (lv_at hl 0 rfl) ?_
            refine lv_dup hx hb dX3_add_60 rfl ?_
            refine gget hx hb hts in_X3 hown hE.1.1 (hI.1.o 1 rfl) rfl 1 (by decide) q328 rfl dX3_add_61 ?_
            refine lv_iconst (v := (1 : Int32)) hx hb dX3_add_64 (by decide) ?_
            refine lv_iadd hx hb dX3_add_65 ?_
            obtain ⟨t66, et66, hf⟩ := obd hf
            refine gput hx hb hts in_X3 tyX3 tyX3_ok nmX3 hown hE.1.1 (hI.1.o 1 rfl) rfl 1 (by decide) q328 rfl rfl rfl (Nat.le_of_ble_eq_true rfl) dX3_add_66 (fun H locs h1 h2 h3 h4 => ?_)
            have hI := hI.putO (σ' := cou t58 (mup (co t58) 1 1 ((co t58 1 1) + (1 : Int32)))) (P := 1) rfl rfl ⟨rfl, rfl⟩ h1 h2 h3 h4
            rw [Option.some.inj et66] at hI
            obtain ⟨v69, ev69, hf⟩ := obd hf
            refine lv_iinc (v := v69) (lv' := [(6, .int v69), (0, .ref (o + 61)), (2, .ref q5), (3, .int (5 : Int32)), (4, .int c4), (5, .int c5)]) hx hb dX3_add_69 hl (k := 5) rfl (iiE ev69 (by decide)) (by decide) rfl (fun ls hl => ?_)
            refine lv_goto (tgt := 39) hx hb dX3_add_72 (by decide) ?_
            exact hk _ (Option.some.inj hf).symm H locs ls hI (lv_sub hl [1, 2, 3, 4, 5, 0] rfl)
        refine loopO_W (Wat := fun w39 => ∀ (H : Heap) (locs : List Loc) (ls : Array Slot), IA D J o Ld s q5 f5 H locs w39.1 → lv_has ls 7 [(0, .ref (o + 61)), (2, .ref q5), (3, .int (5 : Int32)), (4, .int w23.2), (5, .int x32), (6, .int w39.2)] → W p l e ({ frames := 1, cells := 0, slots := 0, locals := 40 } : Room) s m args below meth c H locs 0 0 Q (F0 m 39 ls [])) (Wex := fun ex_ => ∀ (H : Heap) (locs : List Loc) (ls : Array Slot), IA D J o Ld s q5 f5 H locs ex_ → lv_has ls 7 [(0, .ref (o + 61)), (2, .ref q5), (3, .int (5 : Int32)), (4, .int w23.2)] → W p l e ({ frames := 1, cells := 0, slots := 0, locals := 40 } : Room) s m args below meth c H locs 0 0 Q (F0 m 75 ls [])) (hs39 w23.2 x32) FU _ e39 he39 ?_ H locs ls hI (lv_sub hl [2, 3, 4, 5, 1, 0] rfl)
        · skip
          intro H locs ls hI hl
          obtain ⟨v75, ev75, hf⟩ := obd hf
          refine lv_iinc (v := v75) (lv' := [(4, .int v75), (0, .ref (o + 61)), (2, .ref q5), (3, .int (5 : Int32))]) hx hb dX3_add_75 hl (k := 3) rfl (iiE ev75 (by decide)) (by decide) rfl (fun ls hl => ?_)
          refine lv_goto (tgt := 23) hx hb dX3_add_78 (by decide) ?_
          exact hk _ (Option.some.inj hf).symm H locs ls hI (lv_sub hl [1, 2, 3, 0] rfl)
    · skip
      intro H locs ls hI hl
      refine lv_aload_n hx hb dX3_add_81 rfl (lv_at hl 0 rfl) ?_
      refine gget hx hb hts in_X3 hown hE.1.1 (hI.1.o 1 rfl) rfl 1 (by decide) q328 rfl dX3_add_82 ?_
      have hf := Prod.mk.inj (Option.some.inj hf)
      rw [hf.1]
      exact hret H locs 85 ls (hf.2 ▸ hI) dX3_add_85
  · replace hf := ineg hc hf
    refine lv_iconst (v := (-1 : Int32)) hx hb dX3_add_13 (by decide) ?_
    have hf := Prod.mk.inj (Option.some.inj hf)
    rw [hf.1]
    exact hret H locs 14 ls (hf.2 ▸ hI) dX3_add_14
theorem cwX3_add_X1 {R : Room} {s : State} {args : Array Value} {fr lo : Nat} (hts : ∀ w ∈ lw_all, w.before args s = true) (hR : fr + 1 ≤ R.frames ∧ 8 + (7 + 11) + lo ≤ R.locals) : CallW R s args RX1 RX3 72 yX3_add cX3_add 7 (some .int) (ws_ yX3_add cX3_add 7 (some .int)) ({ frames := fr, cells := 0, slots := 0, locals := lo }) 0 0 1 :=
  cwV 1 hts (lw_V q510 q511 q512 q136 q513) rfl rfl rfl (by decide +kernel) hR
/-- five numbers -/
def f5v (a1 a2 a3 a4 a5 : Int32) : Nat → Int32 := fun j => if j = 4 then a5 else if j = 3 then a4 else if j = 2 then a3 else if j = 1 then a2 else if j = 0 then a1 else 0
def X1_feed (τ : Cs) (a1 a2 a3 a4 a5 : Int32) : Option (Int32 × Cs) := X3_add (f5v a1 a2 a3 a4 a5) τ
set_option maxHeartbeats 4000000 in
theorem mX1_feed (Λ : Nat → Nat → (Nat → Int32) → Int32) (Λn : Nat → Int32) (σ : Cs) (a1 a2 a3 a4 a5 : Int32) (v : Int32 × Cs) (hf : X1_feed σ a1 a2 a3 a4 a5 = some v) : ∀ (l : Launch) (D : va_G) (J : Nat → ClassId) (o z : Nat) (aK aV : Nat → Nat) (G Ld : Nat → Prop) (aF : Nat → Nat) (N : Nat), Met l yX1_feed (ws_ yX1_feed cX1_feed 6 (some .int)) ({ frames := 3, cells := 1, slots := 5, locals := 200 }) (va_Pc [.ref o, .int a1, .int a2, .int a3, .int a4, .int a5] (fun U => (U.heap.size = N ∧ o + 110 < N ∧ PC D J o Ld σ U.heap) ∧ ECC D J o z aK aV G Ld aF Λ Λn U)) (va_Qi (fun (x : Int32) (_ : Unit) => x = v.1) (fun _ t => PC D J o Ld v.2 t.heap) (fun q => rC o q ∨ N ≤ q)) 1 5 (fun q => rC o q ∨ N ≤ q) := by
  intro l D J o z aK aV G Ld aF N
  refine Met.ofW (cc := cX1_feed) (maxL := 6) (ret := some .int) (by decide) rfl ?_
  intro p e s m args below meth c s₁ B hml hv
  obtain ⟨rfl, ⟨hN, hoN, hP⟩, hE⟩ := hv
  have hts := atoms_spec (ws := ws_ yX1_feed cX1_feed 6 (some .int)) B.pre
  have hts : ∀ w ∈ lw_all, w.before _ s = true := fun w h => hts w (List.mem_cons_of_mem _ h)
  have hown : s.vm.findClass RX1 = some m.cls := findClass_of_methodNamed B.named
  have hl := lv_entry [.ref o, .int a1, .int a2, .int a3, .int a4, .int a5] (n := 6) (Nat.le_of_ble_eq_true rfl)
  rw [lg_entry_eq]
  generalize (lg_sl [.ref o, .int a1, .int a2, .int a3, .int a4, .int a5] ++ List.replicate (6 - (lg_sl [.ref o, .int a1, .int a2, .int a3, .int a4, .int a5]).length) Slot.unset).toArray = ls at hl ⊢
  have hl : lv_has ls 6 [(0, .ref o), (1, .int a1), (2, .int a2), (3, .int a3), (4, .int a4), (5, .int a5)] := hl
  have hx := B.exec
  have hb := B.bytes
  refine lv_aload_n hx hb dX1_feed_0 rfl (lv_at hl 0 rfl) ?_
  refine gget hx hb hts in_X1 hown hE.1.1 (hP.o 0 rfl) rfl 4 (by decide) q469 rfl dX1_feed_1 ?_
  refine lv_iconst (v := (5 : Int32)) hx hb dX1_feed_4 (by decide) ?_
  refine gnewa (D := D) (cl := vwC) (atype := .int) (ty := .int) (cA := J 0) (a0 := (5, .inl (fun _ => 0))) (h := N) hx hb hts q318 rfl (hE.1.1.2 0 _ rfl).2 (fun _ => rfl) (by decide) rfl (by decide) hN (Nat.le_of_ble_eq_true rfl) (Nat.le_of_ble_eq_true rfl) dX1_feed_5 (fun H h1 h2 h3 => ?_)
  have hS : va_S (fun q => rC o q ∨ N ≤ q) s.heap H [] := ⟨by omega, fun q g1 g2 => h3 q (by omega), fun l hl => by cases hl⟩
  have hP := hP.kept (fun q g1 g2 => h3 q (by omega))
  refine lv_dup hx hb dX1_feed_7 rfl ?_
  refine lv_iconst (v := (0 : Int32)) hx hb dX1_feed_8 (by decide) ?_
  refine lv_iload_n hx hb dX1_feed_9 rfl (lv_at hl 1 rfl) ?_
  refine gast hx hb hE.1.1 0 h1 rfl (i := (0 : Int32)) (x := a1) (g := upd _ 0 a1) rfl dX1_feed_10 (fun H locs h1 g2 g3 g4 => ?_)
  replace hS := va_S.one hS (Or.inr (Nat.le_refl N)) g2 g3 g4
  replace hP := hP.kept (fun q _ g => g3 q (fun e => by have := g.2.1; omega))
  clear g2 g3 g4
  refine lv_dup hx hb dX1_feed_11 rfl ?_
  refine lv_iconst (v := (1 : Int32)) hx hb dX1_feed_12 (by decide) ?_
  refine lv_iload_n hx hb dX1_feed_13 rfl (lv_at hl 2 rfl) ?_
  refine gast hx hb hE.1.1 0 h1 rfl (i := (1 : Int32)) (x := a2) (g := upd _ 1 a2) rfl dX1_feed_14 (fun H locs h1 g2 g3 g4 => ?_)
  replace hS := va_S.one hS (Or.inr (Nat.le_refl N)) g2 g3 g4
  replace hP := hP.kept (fun q _ g => g3 q (fun e => by have := g.2.1; omega))
  clear g2 g3 g4
  refine lv_dup hx hb dX1_feed_15 rfl ?_
  refine lv_iconst (v := (2 : Int32)) hx hb dX1_feed_16 (by decide) ?_
  refine lv_iload_n hx hb dX1_feed_17 rfl (lv_at hl 3 rfl) ?_
  refine gast hx hb hE.1.1 0 h1 rfl (i := (2 : Int32)) (x := a3) (g := upd _ 2 a3) rfl dX1_feed_18 (fun H locs h1 g2 g3 g4 => ?_)
  replace hS := va_S.one hS (Or.inr (Nat.le_refl N)) g2 g3 g4
  replace hP := hP.kept (fun q _ g => g3 q (fun e => by have := g.2.1; omega))
  clear g2 g3 g4
  refine lv_dup hx hb dX1_feed_19 rfl ?_
  refine lv_iconst (v := (3 : Int32)) hx hb dX1_feed_20 (by decide) ?_
  refine lv_iload hx hb dX1_feed_21 (lv_at hl 4 rfl) ?_
  refine gast hx hb hE.1.1 0 h1 rfl (i := (3 : Int32)) (x := a4) (g := upd _ 3 a4) rfl dX1_feed_23 (fun H locs h1 g2 g3 g4 => ?_)
  replace hS := va_S.one hS (Or.inr (Nat.le_refl N)) g2 g3 g4
  replace hP := hP.kept (fun q _ g => g3 q (fun e => by have := g.2.1; omega))
  clear g2 g3 g4
  refine lv_dup hx hb dX1_feed_24 rfl ?_
  refine lv_iconst (v := (4 : Int32)) hx hb dX1_feed_25 (by decide) ?_
  refine lv_iload hx hb dX1_feed_26 (lv_at hl 5 rfl) ?_
  refine gast hx hb hE.1.1 0 h1 rfl (i := (4 : Int32)) (x := a5) (g := upd _ 4 a5) rfl dX1_feed_28 (fun H locs h1 g2 g3 g4 => ?_)
  replace hS := va_S.one hS (Or.inr (Nat.le_refl N)) g2 g3 g4
  replace hP := hP.kept (fun q _ g => g3 q (fun e => by have := g.2.1; omega))
  clear g2 g3 g4
  have h1 : va_at D vwC (N, .inl (J 0, 5, .inl (f5v a1 a2 a3 a4 a5))) H := by
    show H[N]? = _
    rw [show H[N]? = _ from h1]
    congr 1
  have hnr : ¬ rC o N := fun g => by have := g.2.1; omega
  refine va_calli (va_runV (As := [.ref N]) (rest := []) ⟨hx, hb, hml, hown, hts⟩ (mX3_add Λ Λn σ _ v.1 v.2 hf l D J o z aK aV G Ld aF N) (cwX3_add_X1 hts ⟨Nat.le_of_ble_eq_true rfl, Nat.le_of_ble_eq_true rfl⟩) ⟨fun a U g mk q => ⟨q.1, q.2.1, q.2.2.go (State.WarmedH.refl U) (fun _ _ _ => rfl)⟩, g_recv hE.1.1 (hP.o 1 rfl) rfl, fun U hU hW => ⟨rfl, by rw [hU]; exact ⟨hP, h1, hnr⟩, hE.go hW (fun q g1 g2 => by rw [hU]; exact hS.2.1 q g1 (fun g => by rcases g with g | g; exact g2 g; omega))⟩⟩ rfl rfl hl.1 rfl (lv_room (Nat.le_of_ble_eq_true rfl)) dX1_feed_29 ⟨Nat.le_of_ble_eq_true rfl, Nat.le_of_ble_eq_true rfl⟩) hS (fun q _ h => Or.inl h) (fun q h => Or.inl h) (fun r u t H1 locs1 ht hvm hp hB hz1 hk1 hS => ?_)
  cases hp
  rw [ht] at hB
  exact W.iret hx hb B.returns (fun t ht hW => ⟨⟨v.1, (), rfl, rfl, by show PC D J o Ld v.2 t.heap; rw [ht]; exact hB⟩, hS.F ht⟩) hS.2.2 dX1_feed_32 B.notSynchronized
