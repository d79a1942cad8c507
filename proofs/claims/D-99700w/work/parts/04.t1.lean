def X7_thrown (τ : Mm) : Option (Int32) :=
  some (τ 10 0)
set_option maxHeartbeats 4000000 in
theorem mX7_thrown (τ : Mm) (r : Int32) (hf : X7_thrown τ = some r) : TMi yX7_thrown cX7_thrown 1 (some .int) 1 40 (fun aK => []) r τ τ := by
  refine TMi.of (by decide) rfl (fun _ _ => Nat.le_of_ble_eq_true rfl) ?_
  intro p l e s m args below meth c D cI cZ o z aK aV Q ls hz hx hb hml hown hts hE hret hI hl
  obtain ⟨H, eH⟩ : ∃ H, H = s.heap := ⟨_, rfl⟩
  obtain ⟨locs, eL⟩ : ∃ L : List Loc, L = [] := ⟨_, rfl⟩
  rw [← eH, ← eL] at hI ⊢
  have hl : lv_has ls 1 [(0, .ref o)] := hl
  unfold X7_thrown at hf
  refine lv_aload_n hx hb dX7_thrown_0 rfl (lv_at hl 0 rfl) ?_
  refine tget hx hb hts hown hE hI 0 (by decide) q2100 rfl dX7_thrown_1 ?_
  have hf := Option.some.inj hf
  rw [hf]
  exact hret H locs 4 ls hI dX7_thrown_4


def X7_feed_J23_76 (τ : Mm) (c1 : Int32) (c2 : Int32) (c3 : Int32) (c4 : Int32) (c5 : Int32) (x6 : Int32) (y0 : Int32) : Option ((Mm × Int32) ⊕ (Mm)) :=
  (sto 400 τ 4 (τ 10 8) ((y0.toUInt32 >>> (((24 : Int32) - ((8 : Int32) * (x6 - x6 / (4 : Int32) * (4 : Int32)))).toUInt32 &&& Int32.toUInt32 31)).toInt32 &&& (255 : Int32))).bind fun t103 =>
  (some (mup t103 10 8 ((t103 10 8) + (1 : Int32)))).bind fun t111 =>
  (some (x6 + (1 : Int32))).bind fun v114 =>
  some (.inl (t111, v114))
def X7_feed_L23 (c1 : Int32) (c2 : Int32) (c3 : Int32) (c4 : Int32) (c5 : Int32) (w23 : Mm × Int32) : Option ((Mm × Int32) ⊕ (Mm)) :=
  if (20 : Int32) ≤ w23.2 then
    some (.inr w23.1)
  else
    if (4 : Int32) ≤ w23.2 then
      if (8 : Int32) ≤ w23.2 then
        if (12 : Int32) ≤ w23.2 then
          if (16 : Int32) ≤ w23.2 then
            X7_feed_J23_76 w23.1 c1 c2 c3 c4 c5 w23.2 c5
          else
            X7_feed_J23_76 w23.1 c1 c2 c3 c4 c5 w23.2 c4
        else
          X7_feed_J23_76 w23.1 c1 c2 c3 c4 c5 w23.2 c3
      else
        X7_feed_J23_76 w23.1 c1 c2 c3 c4 c5 w23.2 c2
    else
      X7_feed_J23_76 w23.1 c1 c2 c3 c4 c5 w23.2 c1
def X7_feed (τ : Mm) (a1 : Int32) (a2 : Int32) (a3 : Int32) (a4 : Int32) (a5 : Int32) : Option (Int32 × Mm) :=
  (some (mup τ 10 0 (0 : Int32))).bind fun t2 =>
  if ((t2 10 8) + (20 : Int32)) ≤ (400 : Int32) then
    (loopO (X7_feed_L23 a1 a2 a3 a4 a5) FU (t2, (0 : Int32))).bind fun e23 =>
    some ((e23 10 8), e23)
  else
    some ((-1 : Int32), t2)
set_option maxHeartbeats 4000000 in
theorem mX7_feed (τ : Mm) (a1 : Int32) (a2 : Int32) (a3 : Int32) (a4 : Int32) (a5 : Int32) (r : Int32) (τ' : Mm) (hf : X7_feed τ a1 a2 a3 a4 a5 = some (r, τ')) : TMi yX7_feed cX7_feed 8 (some .int) 1 40 (fun aK => [.int a1, .int a2, .int a3, .int a4, .int a5]) r τ τ' := by
  refine TMi.of (by decide) rfl (fun _ _ => Nat.le_of_ble_eq_true rfl) ?_
  intro p l e s m args below meth c D cI cZ o z aK aV Q ls hz hx hb hml hown hts hE hret hI hl
  obtain ⟨H, eH⟩ : ∃ H, H = s.heap := ⟨_, rfl⟩
  obtain ⟨locs, eL⟩ : ∃ L : List Loc, L = [] := ⟨_, rfl⟩
  rw [← eH, ← eL] at hI ⊢
  have hl : lv_has ls 8 [(0, .ref o), (1, .int a1), (2, .int a2), (3, .int a3), (4, .int a4), (5, .int a5)] := hl
  unfold X7_feed at hf
  refine lv_aload_n hx hb dX7_feed_0 rfl (lv_at hl 0 rfl) ?_
  refine lv_iconst (v := (0 : Int32)) hx hb dX7_feed_1 (by decide) ?_
  obtain ⟨t2, et2, hf⟩ := obd hf
  refine tput hx hb hts hown hE hI 0 (by decide) q2100 rfl (tyX7_ok 0 (by decide)) rfl rfl rfl et2 dX7_feed_2 (fun H locs hI => ?_)
  refine lv_aload_n hx hb dX7_feed_5 rfl (lv_at hl 0 rfl) ?_
  refine tget hx hb hts hown hE hI 8 (by decide) q2108 rfl dX7_feed_6 ?_
  refine lv_bipush (v := (20 : Int32)) hx hb dX7_feed_9 (by decide) ?_
  refine lv_iadd hx hb dX7_feed_11 ?_
  refine lv_sipush (v := (400 : Int32)) hx hb dX7_feed_12 (by decide) ?_
  refine lv_icmp_le (tgt := 20) hx hb dX7_feed_15 (by decide) (fun hc => ?_) (fun hc => ?_)
  · replace hf := ipos hc hf
    refine lv_iconst (v := (0 : Int32)) hx hb dX7_feed_20 (by decide) ?_
    refine lv_istore (lv' := [(6, .int (0 : Int32)), (0, .ref o), (1, .int a1), (2, .int a2), (3, .int a3), (4, .int a4), (5, .int a5)]) hx hb dX7_feed_21 hl (by decide) rfl (fun ls hl => ?_)
    obtain ⟨e23, he23, hf⟩ := obd hf
    have hs23 : ∀ (c1 : Int32) (c2 : Int32) (c3 : Int32) (c4 : Int32) (c5 : Int32), ∀ (w23 : Mm × Int32) (o23 : (Mm × Int32) ⊕ (Mm)), X7_feed_L23 c1 c2 c3 c4 c5 w23 = some o23 → (∀ wx_, o23 = .inl wx_ → ∀ (H : Heap) (locs : List Loc) (ls : Array Slot), IT D cI cZ o s H locs wx_.1 → lv_has ls 8 [(0, .ref o), (1, .int c1), (2, .int c2), (3, .int c3), (4, .int c4), (5, .int c5), (6, .int wx_.2)] → W p l e ({ frames := 1, cells := 0, slots := 0, locals := 40 } : Room) s m args below meth c H locs 0 0 Q (F0 m 23 ls [])) → (∀ ex_, o23 = .inr ex_ → ∀ (H : Heap) (locs : List Loc) (ls : Array Slot), IT D cI cZ o s H locs ex_ → lv_has ls 8 [(0, .ref o)] → W p l e ({ frames := 1, cells := 0, slots := 0, locals := 40 } : Room) s m args below meth c H locs 0 0 Q (F0 m 120 ls [])) → ∀ (H : Heap) (locs : List Loc) (ls : Array Slot), IT D cI cZ o s H locs w23.1 → lv_has ls 8 [(0, .ref o), (1, .int c1), (2, .int c2), (3, .int c3), (4, .int c4), (5, .int c5), (6, .int w23.2)] → W p l e ({ frames := 1, cells := 0, slots := 0, locals := 40 } : Room) s m args below meth c H locs 0 0 Q (F0 m 23 ls []) := by
      intro c1 c2 c3 c4 c5 w23 o23 hf hk hq H locs ls hI hl
      unfold X7_feed_L23 at hf
      have hJ76 : ∀ (τ : Mm) (x6 : Int32) (y0 : Int32) (H : Heap) (locs : List Loc) (ls : Array Slot), X7_feed_J23_76 τ c1 c2 c3 c4 c5 x6 y0 = some o23 → IT D cI cZ o s H locs τ → lv_has ls 8 [(0, .ref o), (1, .int c1), (2, .int c2), (3, .int c3), (4, .int c4), (5, .int c5), (6, .int x6)] → W p l e ({ frames := 1, cells := 0, slots := 0, locals := 40 } : Room) s m args below meth c H locs 0 0 Q (F0 m 76 ls [.int y0]) := by
        intro τ x6 y0 H locs ls hf hI hl
        unfold X7_feed_J23_76 at hf
        refine lv_istore (lv' := [(7, .int y0), (0, .ref o), (1, .int c1), (2, .int c2), (3, .int c3), (4, .int c4), (5, .int c5), (6, .int x6)]) hx hb dX7_feed_76 hl (by decide) rfl (fun ls hl => ?_)
        refine lv_aload_n hx hb dX7_feed_78 rfl (lv_at hl 1 rfl) ?_
        refine tget hx hb hts hown hE hI 7 (by decide) q2107 rfl dX7_feed_79 ?_
        refine lv_aload_n hx hb dX7_feed_82 rfl (lv_at hl 1 rfl) ?_
        refine tget hx hb hts hown hE hI 8 (by decide) q2108 rfl dX7_feed_83 ?_
        refine lv_iload hx hb dX7_feed_86 (lv_at hl 0 rfl) ?_
        refine lv_bipush (v := (24 : Int32)) hx hb dX7_feed_88 (by decide) ?_
        refine lv_bipush (v := (8 : Int32)) hx hb dX7_feed_90 (by decide) ?_
        refine lv_iload hx hb dX7_feed_92 (lv_at hl 7 rfl) ?_
        refine lv_iconst (v := (4 : Int32)) hx hb dX7_feed_94 (by decide) ?_
        refine lv_irem hx hb dX7_feed_95 (by decide) ?_
        refine lv_imul hx hb dX7_feed_96 ?_
        refine lv_isub hx hb dX7_feed_97 ?_
        refine lv_iushr (v := (y0.toUInt32 >>> (((24 : Int32) - ((8 : Int32) * (x6 - x6 / (4 : Int32) * (4 : Int32)))).toUInt32 &&& Int32.toUInt32 31)).toInt32) hx hb dX7_feed_98 rfl ?_
        refine lv_sipush (v := (255 : Int32)) hx hb dX7_feed_99 (by decide) ?_
        refine lv_iand hx hb dX7_feed_102 ?_
        obtain ⟨t103, et103, hf⟩ := obd hf
        refine tast hx hb hE hI 5 400 4 rfl (fun _ => rfl) et103 dX7_feed_103 (fun H locs hI => ?_)
        refine lv_aload_n hx hb dX7_feed_104 rfl (lv_at hl 1 rfl) ?_
        refine lv_dup hx hb dX7_feed_105 rfl ?_
        refine tget hx hb hts hown hE hI 8 (by decide) q2108 rfl dX7_feed_106 ?_
        refine lv_iconst (v := (1 : Int32)) hx hb dX7_feed_109 (by decide) ?_
        refine lv_iadd hx hb dX7_feed_110 ?_
        obtain ⟨t111, et111, hf⟩ := obd hf
        refine tput hx hb hts hown hE hI 8 (by decide) q2108 rfl (tyX7_ok 8 (by decide)) rfl rfl rfl et111 dX7_feed_111 (fun H locs hI => ?_)
        obtain ⟨v114, ev114, hf⟩ := obd hf
        refine lv_iinc (v := v114) (lv' := [(6, .int v114), (7, .int y0), (0, .ref o), (1, .int c1), (2, .int c2), (3, .int c3), (4, .int c4), (5, .int c5)]) hx hb dX7_feed_114 hl (k := 7) rfl (iiE ev114 (by decide)) (by decide) rfl (fun ls hl => ?_)
        refine lv_goto (tgt := 23) hx hb dX7_feed_117 (by decide) ?_
        exact hk _ (Option.some.inj hf).symm H locs ls hI (lv_sub hl [2, 3, 4, 5, 6, 7, 0] rfl)
      refine lv_iload hx hb dX7_feed_23 (lv_at hl 6 rfl) ?_
      refine lv_bipush (v := (20 : Int32)) hx hb dX7_feed_25 (by decide) ?_
      refine lv_icmp_ge (tgt := 120) hx hb dX7_feed_27 (by decide) (fun hc => ?_) (fun hc => ?_)
      · replace hf := ipos hc hf
        exact hq _ (Option.some.inj hf).symm H locs ls hI (lv_sub hl [0] rfl)
      · replace hf := ineg hc hf
        refine lv_iload hx hb dX7_feed_30 (lv_at hl 6 rfl) ?_
        refine lv_iconst (v := (4 : Int32)) hx hb dX7_feed_32 (by decide) ?_
        refine lv_icmp_ge (tgt := 40) hx hb dX7_feed_33 (by decide) (fun hc => ?_) (fun hc => ?_)
        · replace hf := ipos hc hf
          refine lv_iload hx hb dX7_feed_40 (lv_at hl 6 rfl) ?_
          refine lv_bipush (v := (8 : Int32)) hx hb dX7_feed_42 (by decide) ?_
          refine lv_icmp_ge (tgt := 51) hx hb dX7_feed_44 (by decide) (fun hc => ?_) (fun hc => ?_)
          · replace hf := ipos hc hf
            refine lv_iload hx hb dX7_feed_51 (lv_at hl 6 rfl) ?_
            refine lv_bipush (v := (12 : Int32)) hx hb dX7_feed_53 (by decide) ?_
            refine lv_icmp_ge (tgt := 62) hx hb dX7_feed_55 (by decide) (fun hc => ?_) (fun hc => ?_)
            · replace hf := ipos hc hf
              refine lv_iload hx hb dX7_feed_62 (lv_at hl 6 rfl) ?_
              refine lv_bipush (v := (16 : Int32)) hx hb dX7_feed_64 (by decide) ?_
              refine lv_icmp_ge (tgt := 74) hx hb dX7_feed_66 (by decide) (fun hc => ?_) (fun hc => ?_)
              · replace hf := ipos hc hf
                refine lv_iload hx hb dX7_feed_74 (lv_at hl 5 rfl) ?_
                exact hJ76 w23.1 w23.2 c5 H locs ls hf hI  (lv_sub hl [0, 1, 2, 3, 4, 5, 6] rfl)
              · replace hf := ineg hc hf
                refine lv_iload hx hb dX7_feed_69 (lv_at hl 4 rfl) ?_
                refine lv_goto (tgt := 76) hx hb dX7_feed_71 (by decide) ?_
                exact hJ76 w23.1 w23.2 c4 H locs ls hf hI  (lv_sub hl [0, 1, 2, 3, 4, 5, 6] rfl)
            · replace hf := ineg hc hf
              refine lv_iload_n hx hb dX7_feed_58 rfl (lv_at hl 3 rfl) ?_
              refine lv_goto (tgt := 76) hx hb dX7_feed_59 (by decide) ?_
              exact hJ76 w23.1 w23.2 c3 H locs ls hf hI  (lv_sub hl [0, 1, 2, 3, 4, 5, 6] rfl)
          · replace hf := ineg hc hf
            refine lv_iload_n hx hb dX7_feed_47 rfl (lv_at hl 2 rfl) ?_
            refine lv_goto (tgt := 76) hx hb dX7_feed_48 (by decide) ?_
            exact hJ76 w23.1 w23.2 c2 H locs ls hf hI  (lv_sub hl [0, 1, 2, 3, 4, 5, 6] rfl)
        · replace hf := ineg hc hf
          refine lv_iload_n hx hb dX7_feed_36 rfl (lv_at hl 1 rfl) ?_
          refine lv_goto (tgt := 76) hx hb dX7_feed_37 (by decide) ?_
          exact hJ76 w23.1 w23.2 c1 H locs ls hf hI  (lv_sub hl [0, 1, 2, 3, 4, 5, 6] rfl)
    refine loopO_W (Wat := fun w23 => ∀ (H : Heap) (locs : List Loc) (ls : Array Slot), IT D cI cZ o s H locs w23.1 → lv_has ls 8 [(0, .ref o), (1, .int a1), (2, .int a2), (3, .int a3), (4, .int a4), (5, .int a5), (6, .int w23.2)] → W p l e ({ frames := 1, cells := 0, slots := 0, locals := 40 } : Room) s m args below meth c H locs 0 0 Q (F0 m 23 ls [])) (Wex := fun ex_ => ∀ (H : Heap) (locs : List Loc) (ls : Array Slot), IT D cI cZ o s H locs ex_ → lv_has ls 8 [(0, .ref o)] → W p l e ({ frames := 1, cells := 0, slots := 0, locals := 40 } : Room) s m args below meth c H locs 0 0 Q (F0 m 120 ls [])) (hs23 a1 a2 a3 a4 a5) FU _ e23 he23 ?_ H locs ls hI (lv_sub hl [1, 2, 3, 4, 5, 6, 0] rfl)
    · skip
      intro H locs ls hI hl
      refine lv_aload_n hx hb dX7_feed_120 rfl (lv_at hl 0 rfl) ?_
      refine tget hx hb hts hown hE hI 8 (by decide) q2108 rfl dX7_feed_121 ?_
      have hf := Prod.mk.inj (Option.some.inj hf)
      rw [hf.1]
      exact hret H locs 124 ls (hf.2 ▸ hI) dX7_feed_124
  · replace hf := ineg hc hf
    refine lv_iconst (v := (-1 : Int32)) hx hb dX7_feed_18 (by decide) ?_
    have hf := Prod.mk.inj (Option.some.inj hf)
    rw [hf.1]
    exact hret H locs 19 ls (hf.2 ▸ hI) dX7_feed_19


def X7_isIn (a0 : Int32) (a1 : Int32) (a2 : Int32) : Option (Int32) :=
  if a0 < a1 then
    some (0 : Int32)
  else
    if a2 < a0 then
      some (0 : Int32)
    else
      some (1 : Int32)
set_option maxHeartbeats 4000000 in
theorem mX7_isIn (a0 : Int32) (a1 : Int32) (a2 : Int32) (r : Int32) (hf : X7_isIn a0 a1 a2 = some r) : SMi yX7_isIn cX7_isIn 3 (some .boolean) 1 40 [.int a0, .int a1, .int a2] r := by
  refine SMz.of (by decide) (Nat.le_of_ble_eq_true rfl) ?_
  intro p l e s m args below meth c Q ls hx hb hml hown hts hret hl
  have hl : lv_has ls 3 [(0, .int a0), (1, .int a1), (2, .int a2)] := hl
  unfold X7_isIn at hf
  refine lv_iload_n hx hb dX7_isIn_0 rfl (lv_at hl 0 rfl) ?_
  refine lv_iload_n hx hb dX7_isIn_1 rfl (lv_at hl 1 rfl) ?_
  refine lv_icmp_lt (tgt := 14) hx hb dX7_isIn_2 (by decide) (fun hc => ?_) (fun hc => ?_)
  · replace hf := ipos hc hf
    refine lv_iconst (v := (0 : Int32)) hx hb dX7_isIn_14 (by decide) ?_
    have hf := Option.some.inj hf
    rw [hf]
    exact hret 15 ls (hf ▸ (by decide)) dX7_isIn_15
  · replace hf := ineg hc hf
    refine lv_iload_n hx hb dX7_isIn_5 rfl (lv_at hl 0 rfl) ?_
    refine lv_iload_n hx hb dX7_isIn_6 rfl (lv_at hl 2 rfl) ?_
    refine lv_icmp_gt (tgt := 14) hx hb dX7_isIn_7 (by decide) (fun hc => ?_) (fun hc => ?_)
    · replace hf := ipos hc hf
      refine lv_iconst (v := (0 : Int32)) hx hb dX7_isIn_14 (by decide) ?_
      have hf := Option.some.inj hf
      rw [hf]
      exact hret 15 ls (hf ▸ (by decide)) dX7_isIn_15
    · replace hf := ineg hc hf
      refine lv_iconst (v := (1 : Int32)) hx hb dX7_isIn_10 (by decide) ?_
      refine lv_goto (tgt := 15) hx hb dX7_isIn_11 (by decide) ?_
      have hf := Option.some.inj hf
      rw [hf]
      exact hret 15 ls (hf ▸ (by decide)) dX7_isIn_15
theorem cwX7_isIn {R : Room} {s : State} {args : Array Value} {fr lo : Nat} (hts : ∀ w ∈ lw_all, w.before args s = true) (hR : fr + 1 ≤ R.frames ∧ 8 + (3 + 11) + lo ≤ R.locals) : CallB R s args RX7 48 yX7_isIn cX7_isIn 3 (some .boolean) (ws_ yX7_isIn cX7_isIn 3 (some .boolean)) ({ frames := fr, cells := 0, slots := 0, locals := lo }) 0 0 3 ∧ (Cond.static yX7_isIn).before args s = true :=
  va_cwS 3 hts (lw_S q2185 q2186 q143 q2187) rfl rfl rfl (by decide +kernel) hR

def X7_end (τ : Mm) (a1 : Int32) : Option (Int32 × Mm) :=
  (some (mup τ 10 0 (0 : Int32))).bind fun t2 =>
  (X7_isIn a1 (0 : Int32) (t2 10 8)).bind fun x11 =>
  if x11 = (0 : Int32) then
    some ((0 : Int32), t2)
  else
    (some (mup t2 10 8 a1)).bind fun t21 =>
    some ((1 : Int32), t21)
set_option maxHeartbeats 4000000 in
theorem mX7_end (τ : Mm) (a1 : Int32) (r : Int32) (τ' : Mm) (hf : X7_end τ a1 = some (r, τ')) : TMi yX7_end cX7_end 2 (some .boolean) 2 62 (fun aK => [.int a1]) r τ τ' := by
  refine TMz.of (by decide) rfl (fun _ _ => Nat.le_of_ble_eq_true rfl) ?_
  intro p l e s m args below meth c D cI cZ o z aK aV Q ls hz hx hb hml hown hts hE hret hI hl
  obtain ⟨H, eH⟩ : ∃ H, H = s.heap := ⟨_, rfl⟩
  obtain ⟨locs, eL⟩ : ∃ L : List Loc, L = [] := ⟨_, rfl⟩
  rw [← eH, ← eL] at hI ⊢
  have hl : lv_has ls 2 [(0, .ref o), (1, .int a1)] := hl
  unfold X7_end at hf
  refine lv_aload_n hx hb dX7_end_0 rfl (lv_at hl 0 rfl) ?_
  refine lv_iconst (v := (0 : Int32)) hx hb dX7_end_1 (by decide) ?_
  obtain ⟨t2, et2, hf⟩ := obd hf
  refine tput hx hb hts hown hE hI 0 (by decide) q2100 rfl (tyX7_ok 0 (by decide)) rfl rfl rfl et2 dX7_end_2 (fun H locs hI => ?_)
  refine lv_iload_n hx hb dX7_end_5 rfl (lv_at hl 1 rfl) ?_
  refine lv_iconst (v := (0 : Int32)) hx hb dX7_end_6 (by decide) ?_
  refine lv_aload_n hx hb dX7_end_7 rfl (lv_at hl 0 rfl) ?_
  refine tget hx hb hts hown hE hI 8 (by decide) q2108 rfl dX7_end_8 ?_
  obtain ⟨x11, ex11, hf⟩ := obd hf
  refine tcallS (rest := []) hx hb hts hown hml hl.1 (mX7_isIn a1 (0 : Int32) (t2 10 8) _ ex11) (cwX7_isIn hts ⟨Nat.le_of_ble_eq_true rfl, Nat.le_of_ble_eq_true rfl⟩) ⟨Nat.le_of_ble_eq_true rfl, Nat.le_of_ble_eq_true rfl⟩ rfl rfl (lv_room (Nat.le_of_ble_eq_true rfl)) dX7_end_11 ?_
  refine lv_if_ne (tgt := 19) hx hb dX7_end_14 (by decide) (fun hc => ?_) (fun hc => ?_)
  · replace hf := ineg hc hf
    refine lv_aload_n hx hb dX7_end_19 rfl (lv_at hl 0 rfl) ?_
    refine lv_iload_n hx hb dX7_end_20 rfl (lv_at hl 1 rfl) ?_
    obtain ⟨t21, et21, hf⟩ := obd hf
    refine tput hx hb hts hown hE hI 8 (by decide) q2108 rfl (tyX7_ok 8 (by decide)) rfl rfl rfl et21 dX7_end_21 (fun H locs hI => ?_)
    refine lv_iconst (v := (1 : Int32)) hx hb dX7_end_24 (by decide) ?_
    have hf := Prod.mk.inj (Option.some.inj hf)
    rw [hf.1]
    exact hret H locs 25 ls (hf.2 ▸ hI) (hf.1 ▸ (by decide)) dX7_end_25
  · replace hf := ipos hc hf
    refine lv_iconst (v := (0 : Int32)) hx hb dX7_end_17 (by decide) ?_
    have hf := Prod.mk.inj (Option.some.inj hf)
    rw [hf.1]
    exact hret H locs 18 ls (hf.2 ▸ hI) (hf.1 ▸ (by decide)) dX7_end_18


def X7_putsAside_L2 (w2 : Mm × Int32) : Option ((Mm × Int32) ⊕ (Mm)) :=
  if (381 : Int32) ≤ w2.2 then
    some (.inr w2.1)
  else
    (ld 781 (w2.1 0) w2.2).bind fun x19 =>
    (sto 381 w2.1 2 w2.2 x19).bind fun t20 =>
    (some (w2.2 + (1 : Int32))).bind fun v21 =>
    some (.inl (t20, v21))
def X7_putsAside (τ : Mm) : Option (Mm) :=
  (loopO (X7_putsAside_L2) FU (τ, (0 : Int32))).bind fun e2 =>
  some e2
set_option maxHeartbeats 4000000 in
theorem mX7_putsAside (τ : Mm) (τ' : Mm) (hf : X7_putsAside τ = some τ') : TMv yX7_putsAside cX7_putsAside 2 none 1 40 (fun aK => []) τ τ' := by
  refine TMv.of (by decide) rfl (fun _ _ => Nat.le_of_ble_eq_true rfl) ?_
  intro p l e s m args below meth c D cI cZ o z aK aV Q ls hz hx hb hml hown hts hE hret hI hl
  obtain ⟨H, eH⟩ : ∃ H, H = s.heap := ⟨_, rfl⟩
  obtain ⟨locs, eL⟩ : ∃ L : List Loc, L = [] := ⟨_, rfl⟩
  rw [← eH, ← eL] at hI ⊢
  have hl : lv_has ls 2 [(0, .ref o)] := hl
  unfold X7_putsAside at hf
  refine lv_iconst (v := (0 : Int32)) hx hb dX7_putsAside_0 (by decide) ?_
  refine lv_istore_n (lv' := [(1, .int (0 : Int32)), (0, .ref o)]) hx hb dX7_putsAside_1 rfl hl (by decide) rfl (fun ls hl => ?_)
  obtain ⟨e2, he2, hf⟩ := obd hf
  refine loopO_W (Wat := fun w2 => ∀ (H : Heap) (locs : List Loc) (ls : Array Slot), IT D cI cZ o s H locs w2.1 → lv_has ls 2 [(0, .ref o), (1, .int w2.2)] → W p l e ({ frames := 1, cells := 0, slots := 0, locals := 40 } : Room) s m args below meth c H locs 0 0 Q (F0 m 2 ls [])) (Wex := fun ex_ => ∀ (H : Heap) (locs : List Loc) (ls : Array Slot), IT D cI cZ o s H locs ex_ → lv_has ls 2 [] → W p l e ({ frames := 1, cells := 0, slots := 0, locals := 40 } : Room) s m args below meth c H locs 0 0 Q (F0 m 27 ls [])) (fun w2 o2 hf hk hq => ?_) FU _ e2 he2 ?_ H locs ls hI (lv_sub hl [1, 0] rfl)
  · intro H locs ls hI hl
    unfold X7_putsAside_L2 at hf
    refine lv_iload_n hx hb dX7_putsAside_2 rfl (lv_at hl 1 rfl) ?_
    refine lv_sipush (v := (381 : Int32)) hx hb dX7_putsAside_3 (by decide) ?_
    refine lv_icmp_ge (tgt := 27) hx hb dX7_putsAside_6 (by decide) (fun hc => ?_) (fun hc => ?_)
    · replace hf := ipos hc hf
      exact hq _ (Option.some.inj hf).symm H locs ls hI (lv_sub hl [] rfl)
    · replace hf := ineg hc hf
      refine lv_aload_n hx hb dX7_putsAside_9 rfl (lv_at hl 0 rfl) ?_
      refine tget hx hb hts hown hE hI 4 (by decide) q2104 rfl dX7_putsAside_10 ?_
      refine lv_iload_n hx hb dX7_putsAside_13 rfl (lv_at hl 1 rfl) ?_
      refine lv_aload_n hx hb dX7_putsAside_14 rfl (lv_at hl 0 rfl) ?_
      refine tget hx hb hts hown hE hI 1 (by decide) q2101 rfl dX7_putsAside_15 ?_
      refine lv_iload_n hx hb dX7_putsAside_18 rfl (lv_at hl 1 rfl) ?_
      obtain ⟨x19, ex19, hf⟩ := obd hf
      refine tald hx hb hE hI 1 781 rfl ex19 dX7_putsAside_19 ?_
      obtain ⟨t20, et20, hf⟩ := obd hf
      refine tast hx hb hE hI 3 381 2 rfl (fun _ => rfl) et20 dX7_putsAside_20 (fun H locs hI => ?_)
      obtain ⟨v21, ev21, hf⟩ := obd hf
      refine lv_iinc (v := v21) (lv' := [(1, .int v21), (0, .ref o)]) hx hb dX7_putsAside_21 hl (k := 1) rfl (iiE ev21 (by decide)) (by decide) rfl (fun ls hl => ?_)
      refine lv_goto (tgt := 2) hx hb dX7_putsAside_24 (by decide) ?_
      exact hk _ (Option.some.inj hf).symm H locs ls hI (lv_sub hl [1, 0] rfl)
  · skip
    intro H locs ls hI hl
    exact hret H locs 27 ls ((Option.some.inj hf) ▸ hI) dX7_putsAside_27
theorem cwX7_putsAside {R : Room} {s : State} {args : Array Value} {fr lo : Nat} (hts : ∀ w ∈ lw_all, w.before args s = true) (hR : fr + 1 ≤ R.frames ∧ 8 + (2 + 11) + lo ≤ R.locals) : CallW R s args RX7 RX7 199 yX7_putsAside cX7_putsAside 2 (none) (ws_ yX7_putsAside cX7_putsAside 2 (none)) ({ frames := fr, cells := 0, slots := 0, locals := lo }) 0 0 0 :=
  cwV 0 hts (lw_V q2192 q2194 qs60 q143 q2195) rfl rfl rfl (by decide +kernel) hR

def X7_begins (τ : Mm) : Option (Mm) :=
  (some (mup τ 10 12 (-1 : Int32))).bind fun t2 =>
  (some (mup t2 10 9 (-1 : Int32))).bind fun t7 =>
  (some (mup t7 10 10 (t7 10 8))).bind fun t15 =>
  (some (mup t15 10 8 (0 : Int32))).bind fun t20 =>
  (some (mup t20 10 11 (0 : Int32))).bind fun t25 =>
  (some (mup t25 10 13 (0 : Int32))).bind fun t30 =>
  some t30
set_option maxHeartbeats 4000000 in
theorem mX7_begins (τ : Mm) (τ' : Mm) (hf : X7_begins τ = some τ') : TMv yX7_begins cX7_begins 1 none 1 40 (fun aK => []) τ τ' := by
  refine TMv.of (by decide) rfl (fun _ _ => Nat.le_of_ble_eq_true rfl) ?_
  intro p l e s m args below meth c D cI cZ o z aK aV Q ls hz hx hb hml hown hts hE hret hI hl
  obtain ⟨H, eH⟩ : ∃ H, H = s.heap := ⟨_, rfl⟩
  obtain ⟨locs, eL⟩ : ∃ L : List Loc, L = [] := ⟨_, rfl⟩
  rw [← eH, ← eL] at hI ⊢
  have hl : lv_has ls 1 [(0, .ref o)] := hl
  unfold X7_begins at hf
  refine lv_aload_n hx hb dX7_begins_0 rfl (lv_at hl 0 rfl) ?_
  refine lv_iconst (v := (-1 : Int32)) hx hb dX7_begins_1 (by decide) ?_
  obtain ⟨t2, et2, hf⟩ := obd hf
  refine tput hx hb hts hown hE hI 12 (by decide) q2112 rfl (tyX7_ok 12 (by decide)) rfl rfl rfl et2 dX7_begins_2 (fun H locs hI => ?_)
  refine lv_aload_n hx hb dX7_begins_5 rfl (lv_at hl 0 rfl) ?_
  refine lv_iconst (v := (-1 : Int32)) hx hb dX7_begins_6 (by decide) ?_
  obtain ⟨t7, et7, hf⟩ := obd hf
  refine tput hx hb hts hown hE hI 9 (by decide) q2109 rfl (tyX7_ok 9 (by decide)) rfl rfl rfl et7 dX7_begins_7 (fun H locs hI => ?_)
  refine lv_aload_n hx hb dX7_begins_10 rfl (lv_at hl 0 rfl) ?_
  refine lv_aload_n hx hb dX7_begins_11 rfl (lv_at hl 0 rfl) ?_
  refine tget hx hb hts hown hE hI 8 (by decide) q2108 rfl dX7_begins_12 ?_
  obtain ⟨t15, et15, hf⟩ := obd hf
  refine tput hx hb hts hown hE hI 10 (by decide) q2110 rfl (tyX7_ok 10 (by decide)) rfl rfl rfl et15 dX7_begins_15 (fun H locs hI => ?_)
  refine lv_aload_n hx hb dX7_begins_18 rfl (lv_at hl 0 rfl) ?_
  refine lv_iconst (v := (0 : Int32)) hx hb dX7_begins_19 (by decide) ?_
  obtain ⟨t20, et20, hf⟩ := obd hf
  refine tput hx hb hts hown hE hI 8 (by decide) q2108 rfl (tyX7_ok 8 (by decide)) rfl rfl rfl et20 dX7_begins_20 (fun H locs hI => ?_)
  refine lv_aload_n hx hb dX7_begins_23 rfl (lv_at hl 0 rfl) ?_
  refine lv_iconst (v := (0 : Int32)) hx hb dX7_begins_24 (by decide) ?_
  obtain ⟨t25, et25, hf⟩ := obd hf
  refine tput hx hb hts hown hE hI 11 (by decide) q2111 rfl (tyX7_ok 11 (by decide)) rfl rfl rfl et25 dX7_begins_25 (fun H locs hI => ?_)
  refine lv_aload_n hx hb dX7_begins_28 rfl (lv_at hl 0 rfl) ?_
  refine lv_iconst (v := (0 : Int32)) hx hb dX7_begins_29 (by decide) ?_
  obtain ⟨t30, et30, hf⟩ := obd hf
  refine tput hx hb hts hown hE hI 13 (by decide) q2113 rfl (tyX7_ok 13 (by decide)) rfl rfl rfl et30 dX7_begins_30 (fun H locs hI => ?_)
  exact hret H locs 33 ls ((Option.some.inj hf) ▸ hI) dX7_begins_33
theorem cwX7_begins {R : Room} {s : State} {args : Array Value} {fr lo : Nat} (hts : ∀ w ∈ lw_all, w.before args s = true) (hR : fr + 1 ≤ R.frames ∧ 8 + (1 + 11) + lo ≤ R.locals) : CallW R s args RX7 RX7 202 yX7_begins cX7_begins 1 (none) (ws_ yX7_begins cX7_begins 1 (none)) ({ frames := fr, cells := 0, slots := 0, locals := lo }) 0 0 0 :=
  cwV 0 hts (lw_V q2196 q2198 qs61 q143 q2199) rfl rfl rfl (by decide +kernel) hR

def X7_letter (τ : Mm) (a1 : Int32) : Option (Int32) :=
  if (τ 10 9) = (-1 : Int32) then
    (ld 400 (τ 4) a1).bind fun x13 =>
    some x13
  else
    (ld 781 (τ 0) ((τ 10 9) + a1)).bind fun x27 =>
    some x27
set_option maxHeartbeats 4000000 in
theorem mX7_letter (τ : Mm) (a1 : Int32) (r : Int32) (hf : X7_letter τ a1 = some r) : TMi yX7_letter cX7_letter 2 (some .int) 1 40 (fun aK => [.int a1]) r τ τ := by
  refine TMi.of (by decide) rfl (fun _ _ => Nat.le_of_ble_eq_true rfl) ?_
  intro p l e s m args below meth c D cI cZ o z aK aV Q ls hz hx hb hml hown hts hE hret hI hl
  obtain ⟨H, eH⟩ : ∃ H, H = s.heap := ⟨_, rfl⟩
  obtain ⟨locs, eL⟩ : ∃ L : List Loc, L = [] := ⟨_, rfl⟩
  rw [← eH, ← eL] at hI ⊢
  have hl : lv_has ls 2 [(0, .ref o), (1, .int a1)] := hl
  unfold X7_letter at hf
  refine lv_aload_n hx hb dX7_letter_0 rfl (lv_at hl 0 rfl) ?_
  refine tget hx hb hts hown hE hI 9 (by decide) q2109 rfl dX7_letter_1 ?_
  refine lv_iconst (v := (-1 : Int32)) hx hb dX7_letter_4 (by decide) ?_
  refine lv_icmp_ne (tgt := 17) hx hb dX7_letter_5 (by decide) (fun hc => ?_) (fun hc => ?_)
  · replace hf := ineg hc hf
    refine lv_aload_n hx hb dX7_letter_17 rfl (lv_at hl 0 rfl) ?_
    refine tget hx hb hts hown hE hI 1 (by decide) q2101 rfl dX7_letter_18 ?_
    refine lv_aload_n hx hb dX7_letter_21 rfl (lv_at hl 0 rfl) ?_
    refine tget hx hb hts hown hE hI 9 (by decide) q2109 rfl dX7_letter_22 ?_
    refine lv_iload_n hx hb dX7_letter_25 rfl (lv_at hl 1 rfl) ?_
    refine lv_iadd hx hb dX7_letter_26 ?_
    obtain ⟨x27, ex27, hf⟩ := obd hf
    refine tald hx hb hE hI 1 781 rfl ex27 dX7_letter_27 ?_
    have hf := Option.some.inj hf
    rw [hf]
    exact hret H locs 28 ls hI dX7_letter_28
  · replace hf := ipos hc hf
    refine lv_aload_n hx hb dX7_letter_8 rfl (lv_at hl 0 rfl) ?_
    refine tget hx hb hts hown hE hI 7 (by decide) q2107 rfl dX7_letter_9 ?_
    refine lv_iload_n hx hb dX7_letter_12 rfl (lv_at hl 1 rfl) ?_
    obtain ⟨x13, ex13, hf⟩ := obd hf
    refine tald hx hb hE hI 5 400 rfl ex13 dX7_letter_13 ?_
    refine lv_goto (tgt := 28) hx hb dX7_letter_14 (by decide) ?_
    have hf := Option.some.inj hf
    rw [hf]
    exact hret H locs 28 ls hI dX7_letter_28
theorem cwX7_letter {R : Room} {s : State} {args : Array Value} {fr lo : Nat} (hts : ∀ w ∈ lw_all, w.before args s = true) (hR : fr + 1 ≤ R.frames ∧ 8 + (2 + 11) + lo ≤ R.locals) : CallW R s args RX7 RX7 82 yX7_letter cX7_letter 2 (some .int) (ws_ yX7_letter cX7_letter 2 (some .int)) ({ frames := fr, cells := 0, slots := 0, locals := lo }) 0 0 1 :=
  cwV 1 hts (lw_V q2208 q2210 qs64 q143 q2211) rfl rfl rfl (by decide +kernel) hR

def X7_skip_L0 (w0 : Mm) : Option ((Mm) ⊕ (Mm)) :=
  if (w0 10 10) ≤ (w0 10 11) then
    some (.inr w0)
  else
    (X7_letter w0 (w0 10 11)).bind fun x16 =>
    if x16 = (32 : Int32) then
      (some (mup w0 10 11 ((w0 10 11) + (1 : Int32)))).bind fun t31 =>
      some (.inl t31)
    else
      some (.inr w0)
def X7_skip (τ : Mm) : Option (Mm) :=
  (loopO (X7_skip_L0) FU τ).bind fun e0 =>
  some e0
set_option maxHeartbeats 4000000 in
theorem mX7_skip (τ : Mm) (τ' : Mm) (hf : X7_skip τ = some τ') : TMv yX7_skip cX7_skip 1 none 2 61 (fun aK => []) τ τ' := by
  refine TMv.of (by decide) rfl (fun _ _ => Nat.le_of_ble_eq_true rfl) ?_
  intro p l e s m args below meth c D cI cZ o z aK aV Q ls hz hx hb hml hown hts hE hret hI hl
  obtain ⟨H, eH⟩ : ∃ H, H = s.heap := ⟨_, rfl⟩
  obtain ⟨locs, eL⟩ : ∃ L : List Loc, L = [] := ⟨_, rfl⟩
  rw [← eH, ← eL] at hI ⊢
  have hl : lv_has ls 1 [(0, .ref o)] := hl
  unfold X7_skip at hf
  obtain ⟨e0, he0, hf⟩ := obd hf
  refine loopO_W (Wat := fun w0 => ∀ (H : Heap) (locs : List Loc) (ls : Array Slot), IT D cI cZ o s H locs w0 → lv_has ls 1 [(0, .ref o)] → W p l e ({ frames := 2, cells := 0, slots := 0, locals := 61 } : Room) s m args below meth c H locs 0 0 Q (F0 m 0 ls [])) (Wex := fun ex_ => ∀ (H : Heap) (locs : List Loc) (ls : Array Slot), IT D cI cZ o s H locs ex_ → lv_has ls 1 [] → W p l e ({ frames := 2, cells := 0, slots := 0, locals := 61 } : Room) s m args below meth c H locs 0 0 Q (F0 m 37 ls [])) (fun w0 o0 hf hk hq => ?_) FU _ e0 he0 ?_ H locs ls hI (lv_sub hl [0] rfl)
  · intro H locs ls hI hl
    unfold X7_skip_L0 at hf
    refine lv_aload_n hx hb dX7_skip_0 rfl (lv_at hl 0 rfl) ?_
    refine tget hx hb hts hown hE hI 11 (by decide) q2111 rfl dX7_skip_1 ?_
    refine lv_aload_n hx hb dX7_skip_4 rfl (lv_at hl 0 rfl) ?_
    refine tget hx hb hts hown hE hI 10 (by decide) q2110 rfl dX7_skip_5 ?_
    refine lv_icmp_ge (tgt := 37) hx hb dX7_skip_8 (by decide) (fun hc => ?_) (fun hc => ?_)
    · replace hf := ipos hc hf
      exact hq _ (Option.some.inj hf).symm H locs ls hI (lv_sub hl [] rfl)
    · replace hf := ineg hc hf
      refine lv_aload_n hx hb dX7_skip_11 rfl (lv_at hl 0 rfl) ?_
      refine lv_aload_n hx hb dX7_skip_12 rfl (lv_at hl 0 rfl) ?_
      refine tget hx hb hts hown hE hI 11 (by decide) q2111 rfl dX7_skip_13 ?_
      obtain ⟨x16, ex16, hf⟩ := obd hf
      refine tcallI (rest := []) hx hb hts hown hE hz hI hml hl.1 (mX7_letter w0 (w0 10 11) _ ex16) (cwX7_letter hts ⟨Nat.le_of_ble_eq_true rfl, Nat.le_of_ble_eq_true rfl⟩) ⟨Nat.le_of_ble_eq_true rfl, Nat.le_of_ble_eq_true rfl⟩ rfl rfl (lv_room (Nat.le_of_ble_eq_true rfl)) dX7_skip_16 (fun H locs hI => ?_)
      refine lv_bipush (v := (32 : Int32)) hx hb dX7_skip_19 (by decide) ?_
      refine lv_icmp_ne (tgt := 37) hx hb dX7_skip_21 (by decide) (fun hc => ?_) (fun hc => ?_)
      · replace hf := ineg hc hf
        exact hq _ (Option.some.inj hf).symm H locs ls hI (lv_sub hl [] rfl)
      · replace hf := ipos hc hf
        refine lv_aload_n hx hb dX7_skip_24 rfl (lv_at hl 0 rfl) ?_
        refine lv_dup hx hb dX7_skip_25 rfl ?_
        refine tget hx hb hts hown hE hI 11 (by decide) q2111 rfl dX7_skip_26 ?_
        refine lv_iconst (v := (1 : Int32)) hx hb dX7_skip_29 (by decide) ?_
        refine lv_iadd hx hb dX7_skip_30 ?_
        obtain ⟨t31, et31, hf⟩ := obd hf
        refine tput hx hb hts hown hE hI 11 (by decide) q2111 rfl (tyX7_ok 11 (by decide)) rfl rfl rfl et31 dX7_skip_31 (fun H locs hI => ?_)
        refine lv_goto (tgt := 0) hx hb dX7_skip_34 (by decide) ?_
        exact hk _ (Option.some.inj hf).symm H locs ls hI (lv_sub hl [0] rfl)
  · skip
    intro H locs ls hI hl
    exact hret H locs 37 ls ((Option.some.inj hf) ▸ hI) dX7_skip_37
theorem cwX7_skip {R : Room} {s : State} {args : Array Value} {fr lo : Nat} (hts : ∀ w ∈ lw_all, w.before args s = true) (hR : fr + 1 ≤ R.frames ∧ 8 + (1 + 11) + lo ≤ R.locals) : CallW R s args RX7 RX7 85 yX7_skip cX7_skip 1 (none) (ws_ yX7_skip cX7_skip 1 (none)) ({ frames := fr, cells := 0, slots := 0, locals := lo }) 0 0 0 :=
  cwV 0 hts (lw_V q2204 q2206 qs63 q143 q2207) rfl rfl rfl (by decide +kernel) hR

def X7_wrong (τ : Mm) (a1 : Int32) : Option (Mm) :=
  if (τ 10 12) = (-1 : Int32) then
    (some (mup τ 10 12 a1)).bind fun t10 =>
    some t10
  else
    some τ
set_option maxHeartbeats 4000000 in
theorem mX7_wrong (τ : Mm) (a1 : Int32) (τ' : Mm) (hf : X7_wrong τ a1 = some τ') : TMv yX7_wrong cX7_wrong 2 none 1 40 (fun aK => [.int a1]) τ τ' := by
  refine TMv.of (by decide) rfl (fun _ _ => Nat.le_of_ble_eq_true rfl) ?_
  intro p l e s m args below meth c D cI cZ o z aK aV Q ls hz hx hb hml hown hts hE hret hI hl
  obtain ⟨H, eH⟩ : ∃ H, H = s.heap := ⟨_, rfl⟩
  obtain ⟨locs, eL⟩ : ∃ L : List Loc, L = [] := ⟨_, rfl⟩
  rw [← eH, ← eL] at hI ⊢
  have hl : lv_has ls 2 [(0, .ref o), (1, .int a1)] := hl
  unfold X7_wrong at hf
  refine lv_aload_n hx hb dX7_wrong_0 rfl (lv_at hl 0 rfl) ?_
  refine tget hx hb hts hown hE hI 12 (by decide) q2112 rfl dX7_wrong_1 ?_
  refine lv_iconst (v := (-1 : Int32)) hx hb dX7_wrong_4 (by decide) ?_
  refine lv_icmp_ne (tgt := 13) hx hb dX7_wrong_5 (by decide) (fun hc => ?_) (fun hc => ?_)
  · replace hf := ineg hc hf
    exact hret H locs 13 ls ((Option.some.inj hf) ▸ hI) dX7_wrong_13
  · replace hf := ipos hc hf
    refine lv_aload_n hx hb dX7_wrong_8 rfl (lv_at hl 0 rfl) ?_
    refine lv_iload_n hx hb dX7_wrong_9 rfl (lv_at hl 1 rfl) ?_
    obtain ⟨t10, et10, hf⟩ := obd hf
    refine tput hx hb hts hown hE hI 12 (by decide) q2112 rfl (tyX7_ok 12 (by decide)) rfl rfl rfl et10 dX7_wrong_10 (fun H locs hI => ?_)
    exact hret H locs 13 ls ((Option.some.inj hf) ▸ hI) dX7_wrong_13
theorem cwX7_wrong {R : Room} {s : State} {args : Array Value} {fr lo : Nat} (hts : ∀ w ∈ lw_all, w.before args s = true) (hR : fr + 1 ≤ R.frames ∧ 8 + (2 + 11) + lo ≤ R.locals) : CallW R s args RX7 RX7 101 yX7_wrong cX7_wrong 2 (none) (ws_ yX7_wrong cX7_wrong 2 (none)) ({ frames := fr, cells := 0, slots := 0, locals := lo }) 0 0 1 :=
  cwV 1 hts (lw_V q2212 q2214 qs65 q143 q2215) rfl rfl rfl (by decide +kernel) hR

def X7_has_L9 (τ : Mm) (i1 : Nat) (w9 : Int32) : Option ((Int32) ⊕ (Int32)) :=
  if (τ 10 10) ≤ w9 then
    some (.inr w9)
  else
    (X7_letter τ w9).bind fun x19 =>
    (X7_isIn x19 (97 : Int32) (122 : Int32)).bind fun x26 =>
    if x26 = (0 : Int32) then
      some (.inr w9)
    else
      (some (w9 + (1 : Int32))).bind fun v32 =>
      some (.inl v32)
def X7_has_L55 (τ : Mm) (i1 : Nat) (c2 : Int32) (w55 : Int32) : Option ((Int32) ⊕ ((Unit) ⊕ (Unit))) :=
  if (sLen i1) ≤ w55 then
    some (.inr (.inr ()))
  else
    (X7_letter τ ((τ 10 11) + w55)).bind fun x70 =>
    (sCh i1 w55).bind fun x75 =>
    if x70 = x75 then
      (some (w55 + (1 : Int32))).bind fun v83 =>
      some (.inl v83)
    else
      some (.inr (.inl ()))
def X7_has (τ : Mm) (i1 : Nat) : Option (Int32 × Mm) :=
  (X7_skip τ).bind fun t1 =>
  (some (t1 10 11)).bind fun v8 =>
  (loopO (X7_has_L9 t1 i1) FU v8).bind fun e9 =>
  if (e9 - (t1 10 11)) = (sLen i1) then
    (loopO (X7_has_L55 t1 i1 e9) FU (0 : Int32)).bind fun e55 =>
    Sum.elim (fun e55 =>
      some ((0 : Int32), t1)) (fun e55 =>
      (some (mup t1 10 11 e9)).bind fun t91 =>
      some ((1 : Int32), t91)) e55
  else
    some ((0 : Int32), t1)
set_option maxHeartbeats 4000000 in
theorem mX7_has (τ : Mm) (i1 : Nat) (hi1 : i1 < nS) (r : Int32) (τ' : Mm) (hf : X7_has τ i1 = some (r, τ')) : TMi yX7_has cX7_has 4 (some .boolean) 8 400 (fun aK => [.ref (aK i1)]) r τ τ' := by
  refine TMz.of (by decide) rfl (fun _ _ => Nat.le_of_ble_eq_true rfl) ?_
  intro p l e s m args below meth c D cI cZ o z aK aV Q ls hz hx hb hml hown hts hE hret hI hl
  obtain ⟨H, eH⟩ : ∃ H, H = s.heap := ⟨_, rfl⟩
  obtain ⟨locs, eL⟩ : ∃ L : List Loc, L = [] := ⟨_, rfl⟩
  rw [← eH, ← eL] at hI ⊢
  have hl : lv_has ls 4 [(0, .ref o), (1, .ref (aK i1))] := hl
  unfold X7_has at hf
  refine lv_aload_n hx hb dX7_has_0 rfl (lv_at hl 0 rfl) ?_
  obtain ⟨t1, et1, hf⟩ := obd hf
  refine tcallV (rest := []) hx hb hts hown hE hz hI hml hl.1 (mX7_skip τ _ et1) (cwX7_skip hts ⟨Nat.le_of_ble_eq_true rfl, Nat.le_of_ble_eq_true rfl⟩) ⟨Nat.le_of_ble_eq_true rfl, Nat.le_of_ble_eq_true rfl⟩ rfl rfl (lv_room (Nat.le_of_ble_eq_true rfl)) dX7_has_1 (fun H locs hI => ?_)
  refine lv_aload_n hx hb dX7_has_4 rfl (lv_at hl 0 rfl) ?_
  refine tget hx hb hts hown hE hI 11 (by decide) q2111 rfl dX7_has_5 ?_
  obtain ⟨v8, ev8, hf⟩ := obd hf
  refine nmI ev8 ?_
  refine lv_istore_n (lv' := [(2, .int v8), (0, .ref o), (1, .ref (aK i1))]) hx hb dX7_has_8 rfl hl (by decide) rfl (fun ls hl => ?_)
  obtain ⟨e9, he9, hf⟩ := obd hf
  have hs9 : ∀ (τ : Mm) , ∀ (w9 : Int32) (o9 : (Int32) ⊕ (Int32)), X7_has_L9 τ i1 w9 = some o9 → (∀ wx_, o9 = .inl wx_ → ∀ (H : Heap) (locs : List Loc) (ls : Array Slot), IT D cI cZ o s H locs τ → lv_has ls 4 [(0, .ref o), (1, .ref (aK i1)), (2, .int wx_)] → W p l e ({ frames := 8, cells := 0, slots := 0, locals := 400 } : Room) s m args below meth c H locs 0 0 Q (F0 m 9 ls [])) → (∀ ex_, o9 = .inr ex_ → ∀ (H : Heap) (locs : List Loc) (ls : Array Slot), IT D cI cZ o s H locs τ → lv_has ls 4 [(0, .ref o), (1, .ref (aK i1)), (2, .int ex_)] → W p l e ({ frames := 8, cells := 0, slots := 0, locals := 400 } : Room) s m args below meth c H locs 0 0 Q (F0 m 38 ls [])) → ∀ (H : Heap) (locs : List Loc) (ls : Array Slot), IT D cI cZ o s H locs τ → lv_has ls 4 [(0, .ref o), (1, .ref (aK i1)), (2, .int w9)] → W p l e ({ frames := 8, cells := 0, slots := 0, locals := 400 } : Room) s m args below meth c H locs 0 0 Q (F0 m 9 ls []) := by
    intro τ  w9 o9 hf hk hq H locs ls hI hl
    unfold X7_has_L9 at hf
    refine lv_iload_n hx hb dX7_has_9 rfl (lv_at hl 2 rfl) ?_
    refine lv_aload_n hx hb dX7_has_10 rfl (lv_at hl 0 rfl) ?_
    refine tget hx hb hts hown hE hI 10 (by decide) q2110 rfl dX7_has_11 ?_
    refine lv_icmp_ge (tgt := 38) hx hb dX7_has_14 (by decide) (fun hc => ?_) (fun hc => ?_)
    · replace hf := ipos hc hf
      exact hq _ (Option.some.inj hf).symm H locs ls hI (lv_sub hl [0, 1, 2] rfl)
    · replace hf := ineg hc hf
      refine lv_aload_n hx hb dX7_has_17 rfl (lv_at hl 0 rfl) ?_
      refine lv_iload_n hx hb dX7_has_18 rfl (lv_at hl 2 rfl) ?_
      obtain ⟨x19, ex19, hf⟩ := obd hf
      refine tcallI (rest := []) hx hb hts hown hE hz hI hml hl.1 (mX7_letter τ w9 _ ex19) (cwX7_letter hts ⟨Nat.le_of_ble_eq_true rfl, Nat.le_of_ble_eq_true rfl⟩) ⟨Nat.le_of_ble_eq_true rfl, Nat.le_of_ble_eq_true rfl⟩ rfl rfl (lv_room (Nat.le_of_ble_eq_true rfl)) dX7_has_19 (fun H locs hI => ?_)
      refine lv_bipush (v := (97 : Int32)) hx hb dX7_has_22 (by decide) ?_
      refine lv_bipush (v := (122 : Int32)) hx hb dX7_has_24 (by decide) ?_
      obtain ⟨x26, ex26, hf⟩ := obd hf
      refine tcallS (rest := []) hx hb hts hown hml hl.1 (mX7_isIn x19 (97 : Int32) (122 : Int32) _ ex26) (cwX7_isIn hts ⟨Nat.le_of_ble_eq_true rfl, Nat.le_of_ble_eq_true rfl⟩) ⟨Nat.le_of_ble_eq_true rfl, Nat.le_of_ble_eq_true rfl⟩ rfl rfl (lv_room (Nat.le_of_ble_eq_true rfl)) dX7_has_26 ?_
      refine lv_if_eq (tgt := 38) hx hb dX7_has_29 (by decide) (fun hc => ?_) (fun hc => ?_)
      · replace hf := ipos hc hf
        exact hq _ (Option.some.inj hf).symm H locs ls hI (lv_sub hl [0, 1, 2] rfl)
      · replace hf := ineg hc hf
        obtain ⟨v32, ev32, hf⟩ := obd hf
        refine lv_iinc (v := v32) (lv' := [(2, .int v32), (0, .ref o), (1, .ref (aK i1))]) hx hb dX7_has_32 hl (k := 2) rfl (iiE ev32 (by decide)) (by decide) rfl (fun ls hl => ?_)
        refine lv_goto (tgt := 9) hx hb dX7_has_35 (by decide) ?_
        exact hk _ (Option.some.inj hf).symm H locs ls hI (lv_sub hl [1, 2, 0] rfl)
  refine loopO_W (Wat := fun w9 => ∀ (H : Heap) (locs : List Loc) (ls : Array Slot), IT D cI cZ o s H locs t1 → lv_has ls 4 [(0, .ref o), (1, .ref (aK i1)), (2, .int w9)] → W p l e ({ frames := 8, cells := 0, slots := 0, locals := 400 } : Room) s m args below meth c H locs 0 0 Q (F0 m 9 ls [])) (Wex := fun ex_ => ∀ (H : Heap) (locs : List Loc) (ls : Array Slot), IT D cI cZ o s H locs t1 → lv_has ls 4 [(0, .ref o), (1, .ref (aK i1)), (2, .int ex_)] → W p l e ({ frames := 8, cells := 0, slots := 0, locals := 400 } : Room) s m args below meth c H locs 0 0 Q (F0 m 38 ls [])) (hs9 t1) FU _ e9 he9 ?_ H locs ls hI (lv_sub hl [1, 2, 0] rfl)
  · skip
    intro H locs ls hI hl
    refine lv_iload_n hx hb dX7_has_38 rfl (lv_at hl 2 rfl) ?_
    refine lv_aload_n hx hb dX7_has_39 rfl (lv_at hl 0 rfl) ?_
    refine tget hx hb hts hown hE hI 11 (by decide) q2111 rfl dX7_has_40 ?_
    refine lv_isub hx hb dX7_has_43 ?_
    refine lv_aload_n hx hb dX7_has_44 rfl (lv_at hl 1 rfl) ?_
    refine tslen hx hb hts hown hE hz hI hml hl.1 hi1 ⟨Nat.le_of_ble_eq_true rfl, Nat.le_of_ble_eq_true rfl⟩ (lv_room (Nat.le_of_ble_eq_true rfl)) dX7_has_45 ?_
    refine lv_icmp_eq (tgt := 53) hx hb dX7_has_48 (by decide) (fun hc => ?_) (fun hc => ?_)
    · replace hf := ipos hc hf
      refine lv_iconst (v := (0 : Int32)) hx hb dX7_has_53 (by decide) ?_
      refine lv_istore_n (lv' := [(3, .int (0 : Int32)), (0, .ref o), (1, .ref (aK i1)), (2, .int e9)]) hx hb dX7_has_54 rfl hl (by decide) rfl (fun ls hl => ?_)
      obtain ⟨e55, he55, hf⟩ := obd hf
      have hs55 : ∀ (τ : Mm) (c2 : Int32), ∀ (w55 : Int32) (o55 : (Int32) ⊕ ((Unit) ⊕ (Unit))), X7_has_L55 τ i1 c2 w55 = some o55 → (∀ wx_, o55 = .inl wx_ → ∀ (H : Heap) (locs : List Loc) (ls : Array Slot), IT D cI cZ o s H locs τ → lv_has ls 4 [(0, .ref o), (1, .ref (aK i1)), (2, .int c2), (3, .int wx_)] → W p l e ({ frames := 8, cells := 0, slots := 0, locals := 400 } : Room) s m args below meth c H locs 0 0 Q (F0 m 55 ls [])) → (∀ ex_, o55 = .inr ex_ → Sum.elim (fun ex_ => ∀ (H : Heap) (locs : List Loc) (ls : Array Slot), IT D cI cZ o s H locs τ → lv_has ls 4 [] → W p l e ({ frames := 8, cells := 0, slots := 0, locals := 400 } : Room) s m args below meth c H locs 0 0 Q (F0 m 81 ls [])) (fun ex_ => ∀ (H : Heap) (locs : List Loc) (ls : Array Slot), IT D cI cZ o s H locs τ → lv_has ls 4 [(0, .ref o), (2, .int c2)] → W p l e ({ frames := 8, cells := 0, slots := 0, locals := 400 } : Room) s m args below meth c H locs 0 0 Q (F0 m 89 ls [])) ex_) → ∀ (H : Heap) (locs : List Loc) (ls : Array Slot), IT D cI cZ o s H locs τ → lv_has ls 4 [(0, .ref o), (1, .ref (aK i1)), (2, .int c2), (3, .int w55)] → W p l e ({ frames := 8, cells := 0, slots := 0, locals := 400 } : Room) s m args below meth c H locs 0 0 Q (F0 m 55 ls []) := by
        intro τ c2 w55 o55 hf hk hq H locs ls hI hl
        unfold X7_has_L55 at hf
        refine lv_iload_n hx hb dX7_has_55 rfl (lv_at hl 3 rfl) ?_
        refine lv_aload_n hx hb dX7_has_56 rfl (lv_at hl 1 rfl) ?_
        refine tslen hx hb hts hown hE hz hI hml hl.1 hi1 ⟨Nat.le_of_ble_eq_true rfl, Nat.le_of_ble_eq_true rfl⟩ (lv_room (Nat.le_of_ble_eq_true rfl)) dX7_has_57 ?_
        refine lv_icmp_ge (tgt := 89) hx hb dX7_has_60 (by decide) (fun hc => ?_) (fun hc => ?_)
        · replace hf := ipos hc hf
          exact hq _ (Option.some.inj hf).symm H locs ls hI (lv_sub hl [0, 2] rfl)
        · replace hf := ineg hc hf
          refine lv_aload_n hx hb dX7_has_63 rfl (lv_at hl 0 rfl) ?_
          refine lv_aload_n hx hb dX7_has_64 rfl (lv_at hl 0 rfl) ?_
          refine tget hx hb hts hown hE hI 11 (by decide) q2111 rfl dX7_has_65 ?_
          refine lv_iload_n hx hb dX7_has_68 rfl (lv_at hl 3 rfl) ?_
          refine lv_iadd hx hb dX7_has_69 ?_
          obtain ⟨x70, ex70, hf⟩ := obd hf
          refine tcallI (rest := []) hx hb hts hown hE hz hI hml hl.1 (mX7_letter τ ((τ 10 11) + w55) _ ex70) (cwX7_letter hts ⟨Nat.le_of_ble_eq_true rfl, Nat.le_of_ble_eq_true rfl⟩) ⟨Nat.le_of_ble_eq_true rfl, Nat.le_of_ble_eq_true rfl⟩ rfl rfl (lv_room (Nat.le_of_ble_eq_true rfl)) dX7_has_70 (fun H locs hI => ?_)
          refine lv_aload_n hx hb dX7_has_73 rfl (lv_at hl 1 rfl) ?_
          refine lv_iload_n hx hb dX7_has_74 rfl (lv_at hl 3 rfl) ?_
          obtain ⟨x75, ex75, hf⟩ := obd hf
          refine tschar hx hb hts hown hE hz hI hml hl.1 hi1 ex75 ⟨Nat.le_of_ble_eq_true rfl, Nat.le_of_ble_eq_true rfl⟩ (lv_room (Nat.le_of_ble_eq_true rfl)) dX7_has_75 ?_
          refine lv_icmp_eq (tgt := 83) hx hb dX7_has_78 (by decide) (fun hc => ?_) (fun hc => ?_)
          · replace hf := ipos hc hf
            obtain ⟨v83, ev83, hf⟩ := obd hf
            refine lv_iinc (v := v83) (lv' := [(3, .int v83), (0, .ref o), (1, .ref (aK i1)), (2, .int c2)]) hx hb dX7_has_83 hl (k := 3) rfl (iiE ev83 (by decide)) (by decide) rfl (fun ls hl => ?_)
            refine lv_goto (tgt := 55) hx hb dX7_has_86 (by decide) ?_
            exact hk _ (Option.some.inj hf).symm H locs ls hI (lv_sub hl [1, 2, 3, 0] rfl)
          · replace hf := ineg hc hf
            exact hq _ (Option.some.inj hf).symm H locs ls hI (lv_sub hl [] rfl)
      refine loopO_W (Wat := fun w55 => ∀ (H : Heap) (locs : List Loc) (ls : Array Slot), IT D cI cZ o s H locs t1 → lv_has ls 4 [(0, .ref o), (1, .ref (aK i1)), (2, .int e9), (3, .int w55)] → W p l e ({ frames := 8, cells := 0, slots := 0, locals := 400 } : Room) s m args below meth c H locs 0 0 Q (F0 m 55 ls [])) (Wex := fun ex_ => Sum.elim (fun ex_ => ∀ (H : Heap) (locs : List Loc) (ls : Array Slot), IT D cI cZ o s H locs t1 → lv_has ls 4 [] → W p l e ({ frames := 8, cells := 0, slots := 0, locals := 400 } : Room) s m args below meth c H locs 0 0 Q (F0 m 81 ls [])) (fun ex_ => ∀ (H : Heap) (locs : List Loc) (ls : Array Slot), IT D cI cZ o s H locs t1 → lv_has ls 4 [(0, .ref o), (2, .int e9)] → W p l e ({ frames := 8, cells := 0, slots := 0, locals := 400 } : Room) s m args below meth c H locs 0 0 Q (F0 m 89 ls [])) ex_) (hs55 t1 e9) FU _ e55 he55 ?_ H locs ls hI (lv_sub hl [1, 2, 3, 0] rfl)
      · skip
        rcases e55 with e55 | e55
        · replace hf := sumL hf
          intro H locs ls hI hl
          refine lv_iconst (v := (0 : Int32)) hx hb dX7_has_81 (by decide) ?_
          have hf := Prod.mk.inj (Option.some.inj hf)
          rw [hf.1]
          exact hret H locs 82 ls (hf.2 ▸ hI) (hf.1 ▸ (by decide)) dX7_has_82
        · replace hf := sumR hf
          intro H locs ls hI hl
          refine lv_aload_n hx hb dX7_has_89 rfl (lv_at hl 0 rfl) ?_
          refine lv_iload_n hx hb dX7_has_90 rfl (lv_at hl 1 rfl) ?_
          obtain ⟨t91, et91, hf⟩ := obd hf
          refine tput hx hb hts hown hE hI 11 (by decide) q2111 rfl (tyX7_ok 11 (by decide)) rfl rfl rfl et91 dX7_has_91 (fun H locs hI => ?_)
          refine lv_iconst (v := (1 : Int32)) hx hb dX7_has_94 (by decide) ?_
          have hf := Prod.mk.inj (Option.some.inj hf)
          rw [hf.1]
          exact hret H locs 95 ls (hf.2 ▸ hI) (hf.1 ▸ (by decide)) dX7_has_95
    · replace hf := ineg hc hf
      refine lv_iconst (v := (0 : Int32)) hx hb dX7_has_51 (by decide) ?_
      have hf := Prod.mk.inj (Option.some.inj hf)
      rw [hf.1]
      exact hret H locs 52 ls (hf.2 ▸ hI) (hf.1 ▸ (by decide)) dX7_has_52
theorem cwX7_has {R : Room} {s : State} {args : Array Value} {fr lo : Nat} (hts : ∀ w ∈ lw_all, w.before args s = true) (hR : fr + 1 ≤ R.frames ∧ 8 + (4 + 11) + lo ≤ R.locals) : CallW R s args RX7 RX7 105 yX7_has cX7_has 4 (some .boolean) (ws_ yX7_has cX7_has 4 (some .boolean)) ({ frames := fr, cells := 0, slots := 0, locals := lo }) 0 0 1 :=
  cwV 1 hts (lw_V q2221 q2223 qs67 q143 q2224) rfl rfl rfl (by decide +kernel) hR

def X7_here (τ : Mm) : Option (Int32 × Mm) :=
  (X7_skip τ).bind fun t1 =>
  some ((t1 10 11), t1)
set_option maxHeartbeats 4000000 in
theorem mX7_here (τ : Mm) (r : Int32) (τ' : Mm) (hf : X7_here τ = some (r, τ')) : TMi yX7_here cX7_here 1 (some .int) 3 81 (fun aK => []) r τ τ' := by
  refine TMi.of (by decide) rfl (fun _ _ => Nat.le_of_ble_eq_true rfl) ?_
  intro p l e s m args below meth c D cI cZ o z aK aV Q ls hz hx hb hml hown hts hE hret hI hl
  obtain ⟨H, eH⟩ : ∃ H, H = s.heap := ⟨_, rfl⟩
  obtain ⟨locs, eL⟩ : ∃ L : List Loc, L = [] := ⟨_, rfl⟩
  rw [← eH, ← eL] at hI ⊢
  have hl : lv_has ls 1 [(0, .ref o)] := hl
  unfold X7_here at hf
  refine lv_aload_n hx hb dX7_here_0 rfl (lv_at hl 0 rfl) ?_
  obtain ⟨t1, et1, hf⟩ := obd hf
  refine tcallV (rest := []) hx hb hts hown hE hz hI hml hl.1 (mX7_skip τ _ et1) (cwX7_skip hts ⟨Nat.le_of_ble_eq_true rfl, Nat.le_of_ble_eq_true rfl⟩) ⟨Nat.le_of_ble_eq_true rfl, Nat.le_of_ble_eq_true rfl⟩ rfl rfl (lv_room (Nat.le_of_ble_eq_true rfl)) dX7_here_1 (fun H locs hI => ?_)
  refine lv_aload_n hx hb dX7_here_4 rfl (lv_at hl 0 rfl) ?_
  refine tget hx hb hts hown hE hI 11 (by decide) q2111 rfl dX7_here_5 ?_
  have hf := Prod.mk.inj (Option.some.inj hf)
  rw [hf.1]
  exact hret H locs 8 ls (hf.2 ▸ hI) dX7_here_8
theorem cwX7_here {R : Room} {s : State} {args : Array Value} {fr lo : Nat} (hts : ∀ w ∈ lw_all, w.before args s = true) (hR : fr + 1 ≤ R.frames ∧ 8 + (1 + 11) + lo ≤ R.locals) : CallW R s args RX7 RX7 98 yX7_here cX7_here 1 (some .int) (ws_ yX7_here cX7_here 1 (some .int)) ({ frames := fr, cells := 0, slots := 0, locals := lo }) 0 0 0 :=
  cwV 0 hts (lw_V q2243 q2245 qs69 q143 q2246) rfl rfl rfl (by decide +kernel) hR

def X7_figures_L18 (c1 : Int32) (c2 : Int32) (c3 : Int32) (w18 : Mm × Int32) : Option ((Mm × Int32) ⊕ (Mm × Int32)) :=
  if (w18.1 10 10) ≤ (w18.1 10 11) then
    some (.inr (w18.1, w18.2))
  else
    (X7_letter w18.1 (w18.1 10 11)).bind fun x34 =>
    (X7_isIn x34 (48 : Int32) (57 : Int32)).bind fun x41 =>
    if x41 = (0 : Int32) then
      some (.inr (w18.1, w18.2))
    else
      if (3 : Int32) < ((w18.1 10 11) - c3) then
        some (.inr (w18.1, w18.2))
      else
        (X7_letter w18.1 (w18.1 10 11)).bind fun x67 =>
        (some ((((10 : Int32) * w18.2) + x67) - (48 : Int32))).bind fun v74 =>
        (some (mup w18.1 10 11 ((w18.1 10 11) + (1 : Int32)))).bind fun t83 =>
        some (.inl (t83, v74))
def X7_figures (τ : Mm) (a1 : Int32) (a2 : Int32) : Option (Int32 × Mm) :=
  if (τ 10 12) = (-1 : Int32) then
    (X7_here τ).bind fun x11 =>
    (loopO (X7_figures_L18 a1 a2 x11.1) FU (x11.2, (0 : Int32))).bind fun e18 =>
    if (e18.1 10 11) = x11.1 then
      (X7_wrong e18.1 x11.1).bind fun t121 =>
      some (e18.2, t121)
    else
      if (3 : Int32) < ((e18.1 10 11) - x11.1) then
        (X7_wrong e18.1 x11.1).bind fun t121_10 =>
        some (e18.2, t121_10)
      else
        if e18.2 < a1 then
          (X7_wrong e18.1 x11.1).bind fun t121_12 =>
          some (e18.2, t121_12)
        else
          if e18.2 ≤ a2 then
            some (e18.2, e18.1)
          else
            (X7_wrong e18.1 x11.1).bind fun t121_14 =>
            some (e18.2, t121_14)
  else
    some ((0 : Int32), τ)
set_option maxHeartbeats 4000000 in
theorem mX7_figures (τ : Mm) (a1 : Int32) (a2 : Int32) (r : Int32) (τ' : Mm) (hf : X7_figures τ a1 a2 = some (r, τ')) : TMi yX7_figures cX7_figures 5 (some .int) 4 101 (fun aK => [.int a1, .int a2]) r τ τ' := by
  refine TMi.of (by decide) rfl (fun _ _ => Nat.le_of_ble_eq_true rfl) ?_
  intro p l e s m args below meth c D cI cZ o z aK aV Q ls hz hx hb hml hown hts hE hret hI hl
  obtain ⟨H, eH⟩ : ∃ H, H = s.heap := ⟨_, rfl⟩
  obtain ⟨locs, eL⟩ : ∃ L : List Loc, L = [] := ⟨_, rfl⟩
  rw [← eH, ← eL] at hI ⊢
  have hl : lv_has ls 5 [(0, .ref o), (1, .int a1), (2, .int a2)] := hl
  unfold X7_figures at hf
  refine lv_aload_n hx hb dX7_figures_0 rfl (lv_at hl 0 rfl) ?_
  refine tget hx hb hts hown hE hI 12 (by decide) q2112 rfl dX7_figures_1 ?_
  refine lv_iconst (v := (-1 : Int32)) hx hb dX7_figures_4 (by decide) ?_
  refine lv_icmp_eq (tgt := 10) hx hb dX7_figures_5 (by decide) (fun hc => ?_) (fun hc => ?_)
  · replace hf := ipos hc hf
    refine lv_aload_n hx hb dX7_figures_10 rfl (lv_at hl 0 rfl) ?_
    obtain ⟨x11, ex11, hf⟩ := obd hf
    refine tcallI (rest := []) hx hb hts hown hE hz hI hml hl.1 (mX7_here τ _ _ ex11) (cwX7_here hts ⟨Nat.le_of_ble_eq_true rfl, Nat.le_of_ble_eq_true rfl⟩) ⟨Nat.le_of_ble_eq_true rfl, Nat.le_of_ble_eq_true rfl⟩ rfl rfl (lv_room (Nat.le_of_ble_eq_true rfl)) dX7_figures_11 (fun H locs hI => ?_)
    refine lv_istore_n (lv' := [(3, .int x11.1), (0, .ref o), (1, .int a1), (2, .int a2)]) hx hb dX7_figures_14 rfl hl (by decide) rfl (fun ls hl => ?_)
    refine lv_iconst (v := (0 : Int32)) hx hb dX7_figures_15 (by decide) ?_
    refine lv_istore (lv' := [(4, .int (0 : Int32)), (3, .int x11.1), (0, .ref o), (1, .int a1), (2, .int a2)]) hx hb dX7_figures_16 hl (by decide) rfl (fun ls hl => ?_)
    obtain ⟨e18, he18, hf⟩ := obd hf
    have hs18 : ∀ (c1 : Int32) (c2 : Int32) (c3 : Int32), ∀ (w18 : Mm × Int32) (o18 : (Mm × Int32) ⊕ (Mm × Int32)), X7_figures_L18 c1 c2 c3 w18 = some o18 → (∀ wx_, o18 = .inl wx_ → ∀ (H : Heap) (locs : List Loc) (ls : Array Slot), IT D cI cZ o s H locs wx_.1 → lv_has ls 5 [(0, .ref o), (1, .int c1), (2, .int c2), (3, .int c3), (4, .int wx_.2)] → W p l e ({ frames := 4, cells := 0, slots := 0, locals := 101 } : Room) s m args below meth c H locs 0 0 Q (F0 m 18 ls [])) → (∀ ex_, o18 = .inr ex_ → ∀ (H : Heap) (locs : List Loc) (ls : Array Slot), IT D cI cZ o s H locs ex_.1 → lv_has ls 5 [(0, .ref o), (1, .int c1), (2, .int c2), (3, .int c3), (4, .int ex_.2)] → W p l e ({ frames := 4, cells := 0, slots := 0, locals := 101 } : Room) s m args below meth c H locs 0 0 Q (F0 m 89 ls [])) → ∀ (H : Heap) (locs : List Loc) (ls : Array Slot), IT D cI cZ o s H locs w18.1 → lv_has ls 5 [(0, .ref o), (1, .int c1), (2, .int c2), (3, .int c3), (4, .int w18.2)] → W p l e ({ frames := 4, cells := 0, slots := 0, locals := 101 } : Room) s m args below meth c H locs 0 0 Q (F0 m 18 ls []) := by
      intro c1 c2 c3 w18 o18 hf hk hq H locs ls hI hl
      unfold X7_figures_L18 at hf
      refine lv_aload_n hx hb dX7_figures_18 rfl (lv_at hl 0 rfl) ?_
      refine tget hx hb hts hown hE hI 11 (by decide) q2111 rfl dX7_figures_19 ?_
      refine lv_aload_n hx hb dX7_figures_22 rfl (lv_at hl 0 rfl) ?_
      refine tget hx hb hts hown hE hI 10 (by decide) q2110 rfl dX7_figures_23 ?_
      refine lv_icmp_ge (tgt := 89) hx hb dX7_figures_26 (by decide) (fun hc => ?_) (fun hc => ?_)
      · replace hf := ipos hc hf
        exact hq _ (Option.some.inj hf).symm H locs ls hI (lv_sub hl [0, 1, 2, 3, 4] rfl)
      · replace hf := ineg hc hf
        refine lv_aload_n hx hb dX7_figures_29 rfl (lv_at hl 0 rfl) ?_
        refine lv_aload_n hx hb dX7_figures_30 rfl (lv_at hl 0 rfl) ?_
        refine tget hx hb hts hown hE hI 11 (by decide) q2111 rfl dX7_figures_31 ?_
        obtain ⟨x34, ex34, hf⟩ := obd hf
        refine tcallI (rest := []) hx hb hts hown hE hz hI hml hl.1 (mX7_letter w18.1 (w18.1 10 11) _ ex34) (cwX7_letter hts ⟨Nat.le_of_ble_eq_true rfl, Nat.le_of_ble_eq_true rfl⟩) ⟨Nat.le_of_ble_eq_true rfl, Nat.le_of_ble_eq_true rfl⟩ rfl rfl (lv_room (Nat.le_of_ble_eq_true rfl)) dX7_figures_34 (fun H locs hI => ?_)
        refine lv_bipush (v := (48 : Int32)) hx hb dX7_figures_37 (by decide) ?_
        refine lv_bipush (v := (57 : Int32)) hx hb dX7_figures_39 (by decide) ?_
        obtain ⟨x41, ex41, hf⟩ := obd hf
        refine tcallS (rest := []) hx hb hts hown hml hl.1 (mX7_isIn x34 (48 : Int32) (57 : Int32) _ ex41) (cwX7_isIn hts ⟨Nat.le_of_ble_eq_true rfl, Nat.le_of_ble_eq_true rfl⟩) ⟨Nat.le_of_ble_eq_true rfl, Nat.le_of_ble_eq_true rfl⟩ rfl rfl (lv_room (Nat.le_of_ble_eq_true rfl)) dX7_figures_41 ?_
        refine lv_if_eq (tgt := 89) hx hb dX7_figures_44 (by decide) (fun hc => ?_) (fun hc => ?_)
        · replace hf := ipos hc hf
          exact hq _ (Option.some.inj hf).symm H locs ls hI (lv_sub hl [0, 1, 2, 3, 4] rfl)
        · replace hf := ineg hc hf
          refine lv_aload_n hx hb dX7_figures_47 rfl (lv_at hl 0 rfl) ?_
          refine tget hx hb hts hown hE hI 11 (by decide) q2111 rfl dX7_figures_48 ?_
          refine lv_iload_n hx hb dX7_figures_51 rfl (lv_at hl 3 rfl) ?_
          refine lv_isub hx hb dX7_figures_52 ?_
          refine lv_iconst (v := (3 : Int32)) hx hb dX7_figures_53 (by decide) ?_
          refine lv_icmp_gt (tgt := 89) hx hb dX7_figures_54 (by decide) (fun hc => ?_) (fun hc => ?_)
          · replace hf := ipos hc hf
            exact hq _ (Option.some.inj hf).symm H locs ls hI (lv_sub hl [0, 1, 2, 3, 4] rfl)
          · replace hf := ineg hc hf
            refine lv_bipush (v := (10 : Int32)) hx hb dX7_figures_57 (by decide) ?_
            refine lv_iload hx hb dX7_figures_59 (lv_at hl 4 rfl) ?_
            refine lv_imul hx hb dX7_figures_61 ?_
            refine lv_aload_n hx hb dX7_figures_62 rfl (lv_at hl 0 rfl) ?_
            refine lv_aload_n hx hb dX7_figures_63 rfl (lv_at hl 0 rfl) ?_
            refine tget hx hb hts hown hE hI 11 (by decide) q2111 rfl dX7_figures_64 ?_
            obtain ⟨x67, ex67, hf⟩ := obd hf
            refine tcallI (rest := [.int ((10 : Int32) * w18.2)]) hx hb hts hown hE hz hI hml hl.1 (mX7_letter w18.1 (w18.1 10 11) _ ex67) (cwX7_letter hts ⟨Nat.le_of_ble_eq_true rfl, Nat.le_of_ble_eq_true rfl⟩) ⟨Nat.le_of_ble_eq_true rfl, Nat.le_of_ble_eq_true rfl⟩ rfl rfl (lv_room (Nat.le_of_ble_eq_true rfl)) dX7_figures_67 (fun H locs hI => ?_)
            refine lv_iadd hx hb dX7_figures_70 ?_
            refine lv_bipush (v := (48 : Int32)) hx hb dX7_figures_71 (by decide) ?_
            refine lv_isub hx hb dX7_figures_73 ?_
            obtain ⟨v74, ev74, hf⟩ := obd hf
            refine nmI ev74 ?_
            refine lv_istore (lv' := [(4, .int v74), (0, .ref o), (1, .int c1), (2, .int c2), (3, .int c3)]) hx hb dX7_figures_74 hl (by decide) rfl (fun ls hl => ?_)
            refine lv_aload_n hx hb dX7_figures_76 rfl (lv_at hl 1 rfl) ?_
            refine lv_dup hx hb dX7_figures_77 rfl ?_
            refine tget hx hb hts hown hE hI 11 (by decide) q2111 rfl dX7_figures_78 ?_
            refine lv_iconst (v := (1 : Int32)) hx hb dX7_figures_81 (by decide) ?_
            refine lv_iadd hx hb dX7_figures_82 ?_
            obtain ⟨t83, et83, hf⟩ := obd hf
            refine tput hx hb hts hown hE hI 11 (by decide) q2111 rfl (tyX7_ok 11 (by decide)) rfl rfl rfl et83 dX7_figures_83 (fun H locs hI => ?_)
            refine lv_goto (tgt := 18) hx hb dX7_figures_86 (by decide) ?_
            exact hk _ (Option.some.inj hf).symm H locs ls hI (lv_sub hl [1, 2, 3, 4, 0] rfl)
    refine loopO_W (Wat := fun w18 => ∀ (H : Heap) (locs : List Loc) (ls : Array Slot), IT D cI cZ o s H locs w18.1 → lv_has ls 5 [(0, .ref o), (1, .int a1), (2, .int a2), (3, .int x11.1), (4, .int w18.2)] → W p l e ({ frames := 4, cells := 0, slots := 0, locals := 101 } : Room) s m args below meth c H locs 0 0 Q (F0 m 18 ls [])) (Wex := fun ex_ => ∀ (H : Heap) (locs : List Loc) (ls : Array Slot), IT D cI cZ o s H locs ex_.1 → lv_has ls 5 [(0, .ref o), (1, .int a1), (2, .int a2), (3, .int x11.1), (4, .int ex_.2)] → W p l e ({ frames := 4, cells := 0, slots := 0, locals := 101 } : Room) s m args below meth c H locs 0 0 Q (F0 m 89 ls [])) (hs18 a1 a2 x11.1) FU _ e18 he18 ?_ H locs ls hI (lv_sub hl [2, 3, 4, 1, 0] rfl)
    · skip
      intro H locs ls hI hl
      refine lv_aload_n hx hb dX7_figures_89 rfl (lv_at hl 0 rfl) ?_
      refine tget hx hb hts hown hE hI 11 (by decide) q2111 rfl dX7_figures_90 ?_
      refine lv_iload_n hx hb dX7_figures_93 rfl (lv_at hl 3 rfl) ?_
      refine lv_icmp_eq (tgt := 119) hx hb dX7_figures_94 (by decide) (fun hc => ?_) (fun hc => ?_)
      · replace hf := ipos hc hf
        refine lv_aload_n hx hb dX7_figures_119 rfl (lv_at hl 0 rfl) ?_
        refine lv_iload_n hx hb dX7_figures_120 rfl (lv_at hl 3 rfl) ?_
        obtain ⟨t121, et121, hf⟩ := obd hf
        refine tcallV (rest := []) hx hb hts hown hE hz hI hml hl.1 (mX7_wrong e18.1 x11.1 _ et121) (cwX7_wrong hts ⟨Nat.le_of_ble_eq_true rfl, Nat.le_of_ble_eq_true rfl⟩) ⟨Nat.le_of_ble_eq_true rfl, Nat.le_of_ble_eq_true rfl⟩ rfl rfl (lv_room (Nat.le_of_ble_eq_true rfl)) dX7_figures_121 (fun H locs hI => ?_)
        refine lv_iload hx hb dX7_figures_124 (lv_at hl 4 rfl) ?_
        have hf := Prod.mk.inj (Option.some.inj hf)
        rw [hf.1]
        exact hret H locs 126 ls (hf.2 ▸ hI) dX7_figures_126
      · replace hf := ineg hc hf
        refine lv_aload_n hx hb dX7_figures_97 rfl (lv_at hl 0 rfl) ?_
        refine tget hx hb hts hown hE hI 11 (by decide) q2111 rfl dX7_figures_98 ?_
        refine lv_iload_n hx hb dX7_figures_101 rfl (lv_at hl 3 rfl) ?_
        refine lv_isub hx hb dX7_figures_102 ?_
        refine lv_iconst (v := (3 : Int32)) hx hb dX7_figures_103 (by decide) ?_
        refine lv_icmp_gt (tgt := 119) hx hb dX7_figures_104 (by decide) (fun hc => ?_) (fun hc => ?_)
        · replace hf := ipos hc hf
          refine lv_aload_n hx hb dX7_figures_119 rfl (lv_at hl 0 rfl) ?_
          refine lv_iload_n hx hb dX7_figures_120 rfl (lv_at hl 3 rfl) ?_
          obtain ⟨t121_10, et121_10, hf⟩ := obd hf
          refine tcallV (rest := []) hx hb hts hown hE hz hI hml hl.1 (mX7_wrong e18.1 x11.1 _ et121_10) (cwX7_wrong hts ⟨Nat.le_of_ble_eq_true rfl, Nat.le_of_ble_eq_true rfl⟩) ⟨Nat.le_of_ble_eq_true rfl, Nat.le_of_ble_eq_true rfl⟩ rfl rfl (lv_room (Nat.le_of_ble_eq_true rfl)) dX7_figures_121 (fun H locs hI => ?_)
          refine lv_iload hx hb dX7_figures_124 (lv_at hl 4 rfl) ?_
          have hf := Prod.mk.inj (Option.some.inj hf)
          rw [hf.1]
          exact hret H locs 126 ls (hf.2 ▸ hI) dX7_figures_126
        · replace hf := ineg hc hf
          refine lv_iload hx hb dX7_figures_107 (lv_at hl 4 rfl) ?_
          refine lv_iload_n hx hb dX7_figures_109 rfl (lv_at hl 1 rfl) ?_
          refine lv_icmp_lt (tgt := 119) hx hb dX7_figures_110 (by decide) (fun hc => ?_) (fun hc => ?_)
          · replace hf := ipos hc hf
            refine lv_aload_n hx hb dX7_figures_119 rfl (lv_at hl 0 rfl) ?_
            refine lv_iload_n hx hb dX7_figures_120 rfl (lv_at hl 3 rfl) ?_
            obtain ⟨t121_12, et121_12, hf⟩ := obd hf
            refine tcallV (rest := []) hx hb hts hown hE hz hI hml hl.1 (mX7_wrong e18.1 x11.1 _ et121_12) (cwX7_wrong hts ⟨Nat.le_of_ble_eq_true rfl, Nat.le_of_ble_eq_true rfl⟩) ⟨Nat.le_of_ble_eq_true rfl, Nat.le_of_ble_eq_true rfl⟩ rfl rfl (lv_room (Nat.le_of_ble_eq_true rfl)) dX7_figures_121 (fun H locs hI => ?_)
            refine lv_iload hx hb dX7_figures_124 (lv_at hl 4 rfl) ?_
            have hf := Prod.mk.inj (Option.some.inj hf)
            rw [hf.1]
            exact hret H locs 126 ls (hf.2 ▸ hI) dX7_figures_126
          · replace hf := ineg hc hf
            refine lv_iload hx hb dX7_figures_113 (lv_at hl 4 rfl) ?_
            refine lv_iload_n hx hb dX7_figures_115 rfl (lv_at hl 2 rfl) ?_
            refine lv_icmp_le (tgt := 124) hx hb dX7_figures_116 (by decide) (fun hc => ?_) (fun hc => ?_)
            · replace hf := ipos hc hf
              refine lv_iload hx hb dX7_figures_124 (lv_at hl 4 rfl) ?_
              have hf := Prod.mk.inj (Option.some.inj hf)
              rw [hf.1]
              exact hret H locs 126 ls (hf.2 ▸ hI) dX7_figures_126
            · replace hf := ineg hc hf
              refine lv_aload_n hx hb dX7_figures_119 rfl (lv_at hl 0 rfl) ?_
              refine lv_iload_n hx hb dX7_figures_120 rfl (lv_at hl 3 rfl) ?_
              obtain ⟨t121_14, et121_14, hf⟩ := obd hf
              refine tcallV (rest := []) hx hb hts hown hE hz hI hml hl.1 (mX7_wrong e18.1 x11.1 _ et121_14) (cwX7_wrong hts ⟨Nat.le_of_ble_eq_true rfl, Nat.le_of_ble_eq_true rfl⟩) ⟨Nat.le_of_ble_eq_true rfl, Nat.le_of_ble_eq_true rfl⟩ rfl rfl (lv_room (Nat.le_of_ble_eq_true rfl)) dX7_figures_121 (fun H locs hI => ?_)
              refine lv_iload hx hb dX7_figures_124 (lv_at hl 4 rfl) ?_
              have hf := Prod.mk.inj (Option.some.inj hf)
              rw [hf.1]
              exact hret H locs 126 ls (hf.2 ▸ hI) dX7_figures_126
  · replace hf := ineg hc hf
    refine lv_iconst (v := (0 : Int32)) hx hb dX7_figures_8 (by decide) ?_
    have hf := Prod.mk.inj (Option.some.inj hf)
    rw [hf.1]
    exact hret H locs 9 ls (hf.2 ▸ hI) dX7_figures_9
theorem cwX7_figures {R : Room} {s : State} {args : Array Value} {fr lo : Nat} (hts : ∀ w ∈ lw_all, w.before args s = true) (hR : fr + 1 ≤ R.frames ∧ 8 + (5 + 11) + lo ≤ R.locals) : CallW R s args RX7 RX7 109 yX7_figures cX7_figures 5 (some .int) (ws_ yX7_figures cX7_figures 5 (some .int)) ({ frames := fr, cells := 0, slots := 0, locals := lo }) 0 0 2 :=
  cwV 2 hts (lw_V q2239 q2241 qs68 q143 q2242) rfl rfl rfl (by decide +kernel) hR

def X7_isSign (τ : Mm) (a1 : Int32) : Option (Int32 × Mm) :=
  (X7_skip τ).bind fun t1 =>
  if (t1 10 10) ≤ (t1 10 11) then
    some ((0 : Int32), t1)
  else
    (X7_letter t1 (t1 10 11)).bind fun x20 =>
    if x20 = a1 then
      some ((1 : Int32), t1)
    else
      some ((0 : Int32), t1)
set_option maxHeartbeats 4000000 in
theorem mX7_isSign (τ : Mm) (a1 : Int32) (r : Int32) (τ' : Mm) (hf : X7_isSign τ a1 = some (r, τ')) : TMi yX7_isSign cX7_isSign 2 (some .boolean) 3 81 (fun aK => [.int a1]) r τ τ' := by
  refine TMz.of (by decide) rfl (fun _ _ => Nat.le_of_ble_eq_true rfl) ?_
  intro p l e s m args below meth c D cI cZ o z aK aV Q ls hz hx hb hml hown hts hE hret hI hl
  obtain ⟨H, eH⟩ : ∃ H, H = s.heap := ⟨_, rfl⟩
  obtain ⟨locs, eL⟩ : ∃ L : List Loc, L = [] := ⟨_, rfl⟩
  rw [← eH, ← eL] at hI ⊢
  have hl : lv_has ls 2 [(0, .ref o), (1, .int a1)] := hl
  unfold X7_isSign at hf
  refine lv_aload_n hx hb dX7_isSign_0 rfl (lv_at hl 0 rfl) ?_
  obtain ⟨t1, et1, hf⟩ := obd hf
  refine tcallV (rest := []) hx hb hts hown hE hz hI hml hl.1 (mX7_skip τ _ et1) (cwX7_skip hts ⟨Nat.le_of_ble_eq_true rfl, Nat.le_of_ble_eq_true rfl⟩) ⟨Nat.le_of_ble_eq_true rfl, Nat.le_of_ble_eq_true rfl⟩ rfl rfl (lv_room (Nat.le_of_ble_eq_true rfl)) dX7_isSign_1 (fun H locs hI => ?_)
  refine lv_aload_n hx hb dX7_isSign_4 rfl (lv_at hl 0 rfl) ?_
  refine tget hx hb hts hown hE hI 11 (by decide) q2111 rfl dX7_isSign_5 ?_
  refine lv_aload_n hx hb dX7_isSign_8 rfl (lv_at hl 0 rfl) ?_
  refine tget hx hb hts hown hE hI 10 (by decide) q2110 rfl dX7_isSign_9 ?_
  refine lv_icmp_ge (tgt := 31) hx hb dX7_isSign_12 (by decide) (fun hc => ?_) (fun hc => ?_)
  · replace hf := ipos hc hf
    refine lv_iconst (v := (0 : Int32)) hx hb dX7_isSign_31 (by decide) ?_
    have hf := Prod.mk.inj (Option.some.inj hf)
    rw [hf.1]
    exact hret H locs 32 ls (hf.2 ▸ hI) (hf.1 ▸ (by decide)) dX7_isSign_32
  · replace hf := ineg hc hf
    refine lv_aload_n hx hb dX7_isSign_15 rfl (lv_at hl 0 rfl) ?_
    refine lv_aload_n hx hb dX7_isSign_16 rfl (lv_at hl 0 rfl) ?_
    refine tget hx hb hts hown hE hI 11 (by decide) q2111 rfl dX7_isSign_17 ?_
    obtain ⟨x20, ex20, hf⟩ := obd hf
    refine tcallI (rest := []) hx hb hts hown hE hz hI hml hl.1 (mX7_letter t1 (t1 10 11) _ ex20) (cwX7_letter hts ⟨Nat.le_of_ble_eq_true rfl, Nat.le_of_ble_eq_true rfl⟩) ⟨Nat.le_of_ble_eq_true rfl, Nat.le_of_ble_eq_true rfl⟩ rfl rfl (lv_room (Nat.le_of_ble_eq_true rfl)) dX7_isSign_20 (fun H locs hI => ?_)
    refine lv_iload_n hx hb dX7_isSign_23 rfl (lv_at hl 1 rfl) ?_
    refine lv_icmp_ne (tgt := 31) hx hb dX7_isSign_24 (by decide) (fun hc => ?_) (fun hc => ?_)
    · replace hf := ineg hc hf
      refine lv_iconst (v := (0 : Int32)) hx hb dX7_isSign_31 (by decide) ?_
      have hf := Prod.mk.inj (Option.some.inj hf)
      rw [hf.1]
      exact hret H locs 32 ls (hf.2 ▸ hI) (hf.1 ▸ (by decide)) dX7_isSign_32
    · replace hf := ipos hc hf
      refine lv_iconst (v := (1 : Int32)) hx hb dX7_isSign_27 (by decide) ?_
      refine lv_goto (tgt := 32) hx hb dX7_isSign_28 (by decide) ?_
      have hf := Prod.mk.inj (Option.some.inj hf)
      rw [hf.1]
      exact hret H locs 32 ls (hf.2 ▸ hI) (hf.1 ▸ (by decide)) dX7_isSign_32
theorem cwX7_isSign {R : Room} {s : State} {args : Array Value} {fr lo : Nat} (hts : ∀ w ∈ lw_all, w.before args s = true) (hR : fr + 1 ≤ R.frames ∧ 8 + (2 + 11) + lo ≤ R.locals) : CallW R s args RX7 RX7 195 yX7_isSign cX7_isSign 2 (some .boolean) (ws_ yX7_isSign cX7_isSign 2 (some .boolean)) ({ frames := fr, cells := 0, slots := 0, locals := lo }) 0 0 1 :=
  cwV 1 hts (lw_V q2261 q2263 qs73 q143 q2264) rfl rfl rfl (by decide +kernel) hR

def X7_part_J145 (τ : Mm) (y0 : Int32) : Option (Int32 × Mm) :=
  if y0 = (-1 : Int32) then
    (X7_wrong τ (τ 10 11)).bind fun t156 =>
    some ((0 : Int32), t156)
  else
    (ld 7 (τ 5) y0).bind fun x166 =>
    some (x166, τ)
def X7_part_J52 (τ : Mm) : Option (Int32 × Mm) :=
  (X7_has τ 4).bind fun x55 =>
  if x55.1 = (0 : Int32) then
    (X7_has x55.2 3).bind fun x68 =>
    if x68.1 = (0 : Int32) then
      (X7_has x68.2 14).bind fun x81 =>
      if x81.1 = (0 : Int32) then
        (X7_has x81.2 28).bind fun x94 =>
        if x94.1 = (0 : Int32) then
          (X7_has x94.2 31).bind fun x107 =>
          if x107.1 = (0 : Int32) then
            (X7_has x107.2 5).bind fun x120 =>
            if x120.1 = (0 : Int32) then
              (X7_has x120.2 6).bind fun x133 =>
              if x133.1 = (0 : Int32) then
                X7_part_J145 x133.2 (-1 : Int32)
              else
                X7_part_J145 x133.2 (6 : Int32)
            else
              X7_part_J145 x120.2 (5 : Int32)
          else
            X7_part_J145 x107.2 (4 : Int32)
        else
          X7_part_J145 x94.2 (3 : Int32)
      else
        X7_part_J145 x81.2 (2 : Int32)
    else
      X7_part_J145 x68.2 (1 : Int32)
  else
    X7_part_J145 x55.2 (0 : Int32)
def X7_part (τ : Mm) : Option (Int32 × Mm) :=
  if (τ 10 12) = (-1 : Int32) then
    (X7_skip τ).bind fun t11 =>
    if (t11 10 10) ≤ (t11 10 11) then
      X7_part_J52 t11
    else
      (X7_letter t11 (t11 10 11)).bind fun x30 =>
      (X7_isIn x30 (48 : Int32) (57 : Int32)).bind fun x37 =>
      if x37 = (0 : Int32) then
        X7_part_J52 t11
      else
        (X7_figures t11 (0 : Int32) (999 : Int32)).bind fun x48 =>
        some (x48.1, x48.2)
  else
    some ((0 : Int32), τ)
set_option maxHeartbeats 4000000 in
theorem mX7_part (τ : Mm) (r : Int32) (τ' : Mm) (hf : X7_part τ = some (r, τ')) : TMi yX7_part cX7_part 2 (some .int) 9 423 (fun aK => []) r τ τ' := by
  refine TMi.of (by decide) rfl (fun _ _ => Nat.le_of_ble_eq_true rfl) ?_
  intro p l e s m args below meth c D cI cZ o z aK aV Q ls hz hx hb hml hown hts hE hret hI hl
  obtain ⟨H, eH⟩ : ∃ H, H = s.heap := ⟨_, rfl⟩
  obtain ⟨locs, eL⟩ : ∃ L : List Loc, L = [] := ⟨_, rfl⟩
  rw [← eH, ← eL] at hI ⊢
  have hl : lv_has ls 2 [(0, .ref o)] := hl
  unfold X7_part at hf
  have hJ145 : ∀ (τ : Mm) (y0 : Int32) (H : Heap) (locs : List Loc) (ls : Array Slot), X7_part_J145 τ y0 = some (r, τ') → IT D cI cZ o s H locs τ → lv_has ls 2 [(0, .ref o)] → W p l e ({ frames := 9, cells := 0, slots := 0, locals := 423 } : Room) s m args below meth c H locs 0 0 Q (F0 m 145 ls [.int y0]) := by
    intro τ y0 H locs ls hf hI hl
    unfold X7_part_J145 at hf
    refine lv_istore_n (lv' := [(1, .int y0), (0, .ref o)]) hx hb dX7_part_145 rfl hl (by decide) rfl (fun ls hl => ?_)
    refine lv_iload_n hx hb dX7_part_146 rfl (lv_at hl 0 rfl) ?_
    refine lv_iconst (v := (-1 : Int32)) hx hb dX7_part_147 (by decide) ?_
    refine lv_icmp_ne (tgt := 161) hx hb dX7_part_148 (by decide) (fun hc => ?_) (fun hc => ?_)
    · replace hf := ineg hc hf
      refine lv_aload_n hx hb dX7_part_161 rfl (lv_at hl 1 rfl) ?_
      refine tget hx hb hts hown hE hI 14 (by decide) q2114 rfl dX7_part_162 ?_
      refine lv_iload_n hx hb dX7_part_165 rfl (lv_at hl 0 rfl) ?_
      obtain ⟨x166, ex166, hf⟩ := obd hf
      refine tald hx hb hE hI 6 7 rfl ex166 dX7_part_166 ?_
      have hf := Prod.mk.inj (Option.some.inj hf)
      rw [hf.1]
      exact hret H locs 167 ls (hf.2 ▸ hI) dX7_part_167
    · replace hf := ipos hc hf
      refine lv_aload_n hx hb dX7_part_151 rfl (lv_at hl 1 rfl) ?_
      refine lv_aload_n hx hb dX7_part_152 rfl (lv_at hl 1 rfl) ?_
      refine tget hx hb hts hown hE hI 11 (by decide) q2111 rfl dX7_part_153 ?_
      obtain ⟨t156, et156, hf⟩ := obd hf
      refine tcallV (rest := []) hx hb hts hown hE hz hI hml hl.1 (mX7_wrong τ (τ 10 11) _ et156) (cwX7_wrong hts ⟨Nat.le_of_ble_eq_true rfl, Nat.le_of_ble_eq_true rfl⟩) ⟨Nat.le_of_ble_eq_true rfl, Nat.le_of_ble_eq_true rfl⟩ rfl rfl (lv_room (Nat.le_of_ble_eq_true rfl)) dX7_part_156 (fun H locs hI => ?_)
      refine lv_iconst (v := (0 : Int32)) hx hb dX7_part_159 (by decide) ?_
      have hf := Prod.mk.inj (Option.some.inj hf)
      rw [hf.1]
      exact hret H locs 160 ls (hf.2 ▸ hI) dX7_part_160
  have hJ52 : ∀ (τ : Mm) (H : Heap) (locs : List Loc) (ls : Array Slot), X7_part_J52 τ = some (r, τ') → IT D cI cZ o s H locs τ → lv_has ls 2 [(0, .ref o)] → W p l e ({ frames := 9, cells := 0, slots := 0, locals := 423 } : Room) s m args below meth c H locs 0 0 Q (F0 m 52 ls []) := by
    intro τ  H locs ls hf hI hl
    unfold X7_part_J52 at hf
    refine lv_aload_n hx hb dX7_part_52 rfl (lv_at hl 0 rfl) ?_
    refine va_ldcS hx hb hown (hE.2.at 35 rfl) dX7_part_53 ?_
    obtain ⟨x55, ex55, hf⟩ := obd hf
    refine tcallI (rest := []) hx hb hts hown hE hz hI hml hl.1 (mX7_has τ 4 (by decide) _ _ ex55) (cwX7_has hts ⟨Nat.le_of_ble_eq_true rfl, Nat.le_of_ble_eq_true rfl⟩) ⟨Nat.le_of_ble_eq_true rfl, Nat.le_of_ble_eq_true rfl⟩ rfl rfl (lv_room (Nat.le_of_ble_eq_true rfl)) dX7_part_55 (fun H locs hI => ?_)
    refine lv_if_eq (tgt := 65) hx hb dX7_part_58 (by decide) (fun hc => ?_) (fun hc => ?_)
    · replace hf := ipos hc hf
      refine lv_aload_n hx hb dX7_part_65 rfl (lv_at hl 0 rfl) ?_
      refine va_ldcS hx hb hown (hE.2.at 36 rfl) dX7_part_66 ?_
      obtain ⟨x68, ex68, hf⟩ := obd hf
      refine tcallI (rest := []) hx hb hts hown hE hz hI hml hl.1 (mX7_has x55.2 3 (by decide) _ _ ex68) (cwX7_has hts ⟨Nat.le_of_ble_eq_true rfl, Nat.le_of_ble_eq_true rfl⟩) ⟨Nat.le_of_ble_eq_true rfl, Nat.le_of_ble_eq_true rfl⟩ rfl rfl (lv_room (Nat.le_of_ble_eq_true rfl)) dX7_part_68 (fun H locs hI => ?_)
      refine lv_if_eq (tgt := 78) hx hb dX7_part_71 (by decide) (fun hc => ?_) (fun hc => ?_)
      · replace hf := ipos hc hf
        refine lv_aload_n hx hb dX7_part_78 rfl (lv_at hl 0 rfl) ?_
        refine va_ldcS hx hb hown (hE.2.at 37 rfl) dX7_part_79 ?_
        obtain ⟨x81, ex81, hf⟩ := obd hf
        refine tcallI (rest := []) hx hb hts hown hE hz hI hml hl.1 (mX7_has x68.2 14 (by decide) _ _ ex81) (cwX7_has hts ⟨Nat.le_of_ble_eq_true rfl, Nat.le_of_ble_eq_true rfl⟩) ⟨Nat.le_of_ble_eq_true rfl, Nat.le_of_ble_eq_true rfl⟩ rfl rfl (lv_room (Nat.le_of_ble_eq_true rfl)) dX7_part_81 (fun H locs hI => ?_)
        refine lv_if_eq (tgt := 91) hx hb dX7_part_84 (by decide) (fun hc => ?_) (fun hc => ?_)
        · replace hf := ipos hc hf
          refine lv_aload_n hx hb dX7_part_91 rfl (lv_at hl 0 rfl) ?_
          refine va_ldcS hx hb hown (hE.2.at 28 rfl) dX7_part_92 ?_
          obtain ⟨x94, ex94, hf⟩ := obd hf
          refine tcallI (rest := []) hx hb hts hown hE hz hI hml hl.1 (mX7_has x81.2 28 (by decide) _ _ ex94) (cwX7_has hts ⟨Nat.le_of_ble_eq_true rfl, Nat.le_of_ble_eq_true rfl⟩) ⟨Nat.le_of_ble_eq_true rfl, Nat.le_of_ble_eq_true rfl⟩ rfl rfl (lv_room (Nat.le_of_ble_eq_true rfl)) dX7_part_94 (fun H locs hI => ?_)
          refine lv_if_eq (tgt := 104) hx hb dX7_part_97 (by decide) (fun hc => ?_) (fun hc => ?_)
          · replace hf := ipos hc hf
            refine lv_aload_n hx hb dX7_part_104 rfl (lv_at hl 0 rfl) ?_
            refine va_ldcS hx hb hown (hE.2.at 38 rfl) dX7_part_105 ?_
            obtain ⟨x107, ex107, hf⟩ := obd hf
            refine tcallI (rest := []) hx hb hts hown hE hz hI hml hl.1 (mX7_has x94.2 31 (by decide) _ _ ex107) (cwX7_has hts ⟨Nat.le_of_ble_eq_true rfl, Nat.le_of_ble_eq_true rfl⟩) ⟨Nat.le_of_ble_eq_true rfl, Nat.le_of_ble_eq_true rfl⟩ rfl rfl (lv_room (Nat.le_of_ble_eq_true rfl)) dX7_part_107 (fun H locs hI => ?_)
            refine lv_if_eq (tgt := 117) hx hb dX7_part_110 (by decide) (fun hc => ?_) (fun hc => ?_)
            · replace hf := ipos hc hf
              refine lv_aload_n hx hb dX7_part_117 rfl (lv_at hl 0 rfl) ?_
              refine va_ldcS hx hb hown (hE.2.at 39 rfl) dX7_part_118 ?_
              obtain ⟨x120, ex120, hf⟩ := obd hf
              refine tcallI (rest := []) hx hb hts hown hE hz hI hml hl.1 (mX7_has x107.2 5 (by decide) _ _ ex120) (cwX7_has hts ⟨Nat.le_of_ble_eq_true rfl, Nat.le_of_ble_eq_true rfl⟩) ⟨Nat.le_of_ble_eq_true rfl, Nat.le_of_ble_eq_true rfl⟩ rfl rfl (lv_room (Nat.le_of_ble_eq_true rfl)) dX7_part_120 (fun H locs hI => ?_)
              refine lv_if_eq (tgt := 130) hx hb dX7_part_123 (by decide) (fun hc => ?_) (fun hc => ?_)
              · replace hf := ipos hc hf
                refine lv_aload_n hx hb dX7_part_130 rfl (lv_at hl 0 rfl) ?_
                refine va_ldcS hx hb hown (hE.2.at 40 rfl) dX7_part_131 ?_
                obtain ⟨x133, ex133, hf⟩ := obd hf
                refine tcallI (rest := []) hx hb hts hown hE hz hI hml hl.1 (mX7_has x120.2 6 (by decide) _ _ ex133) (cwX7_has hts ⟨Nat.le_of_ble_eq_true rfl, Nat.le_of_ble_eq_true rfl⟩) ⟨Nat.le_of_ble_eq_true rfl, Nat.le_of_ble_eq_true rfl⟩ rfl rfl (lv_room (Nat.le_of_ble_eq_true rfl)) dX7_part_133 (fun H locs hI => ?_)
                refine lv_if_eq (tgt := 144) hx hb dX7_part_136 (by decide) (fun hc => ?_) (fun hc => ?_)
                · replace hf := ipos hc hf
                  refine lv_iconst (v := (-1 : Int32)) hx hb dX7_part_144 (by decide) ?_
                  exact hJ145 x133.2 (-1 : Int32) H locs ls hf hI  (lv_sub hl [0] rfl)
                · replace hf := ineg hc hf
                  refine lv_bipush (v := (6 : Int32)) hx hb dX7_part_139 (by decide) ?_
                  refine lv_goto (tgt := 145) hx hb dX7_part_141 (by decide) ?_
                  exact hJ145 x133.2 (6 : Int32) H locs ls hf hI  (lv_sub hl [0] rfl)
              · replace hf := ineg hc hf
                refine lv_iconst (v := (5 : Int32)) hx hb dX7_part_126 (by decide) ?_
                refine lv_goto (tgt := 145) hx hb dX7_part_127 (by decide) ?_
                exact hJ145 x120.2 (5 : Int32) H locs ls hf hI  (lv_sub hl [0] rfl)
            · replace hf := ineg hc hf
              refine lv_iconst (v := (4 : Int32)) hx hb dX7_part_113 (by decide) ?_
              refine lv_goto (tgt := 145) hx hb dX7_part_114 (by decide) ?_
              exact hJ145 x107.2 (4 : Int32) H locs ls hf hI  (lv_sub hl [0] rfl)
          · replace hf := ineg hc hf
            refine lv_iconst (v := (3 : Int32)) hx hb dX7_part_100 (by decide) ?_
            refine lv_goto (tgt := 145) hx hb dX7_part_101 (by decide) ?_
            exact hJ145 x94.2 (3 : Int32) H locs ls hf hI  (lv_sub hl [0] rfl)
        · replace hf := ineg hc hf
          refine lv_iconst (v := (2 : Int32)) hx hb dX7_part_87 (by decide) ?_
          refine lv_goto (tgt := 145) hx hb dX7_part_88 (by decide) ?_
          exact hJ145 x81.2 (2 : Int32) H locs ls hf hI  (lv_sub hl [0] rfl)
      · replace hf := ineg hc hf
        refine lv_iconst (v := (1 : Int32)) hx hb dX7_part_74 (by decide) ?_
        refine lv_goto (tgt := 145) hx hb dX7_part_75 (by decide) ?_
        exact hJ145 x68.2 (1 : Int32) H locs ls hf hI  (lv_sub hl [0] rfl)
    · replace hf := ineg hc hf
      refine lv_iconst (v := (0 : Int32)) hx hb dX7_part_61 (by decide) ?_
      refine lv_goto (tgt := 145) hx hb dX7_part_62 (by decide) ?_
      exact hJ145 x55.2 (0 : Int32) H locs ls hf hI  (lv_sub hl [0] rfl)
  refine lv_aload_n hx hb dX7_part_0 rfl (lv_at hl 0 rfl) ?_
  refine tget hx hb hts hown hE hI 12 (by decide) q2112 rfl dX7_part_1 ?_
  refine lv_iconst (v := (-1 : Int32)) hx hb dX7_part_4 (by decide) ?_
  refine lv_icmp_eq (tgt := 10) hx hb dX7_part_5 (by decide) (fun hc => ?_) (fun hc => ?_)
  · replace hf := ipos hc hf
    refine lv_aload_n hx hb dX7_part_10 rfl (lv_at hl 0 rfl) ?_
    obtain ⟨t11, et11, hf⟩ := obd hf
    refine tcallV (rest := []) hx hb hts hown hE hz hI hml hl.1 (mX7_skip τ _ et11) (cwX7_skip hts ⟨Nat.le_of_ble_eq_true rfl, Nat.le_of_ble_eq_true rfl⟩) ⟨Nat.le_of_ble_eq_true rfl, Nat.le_of_ble_eq_true rfl⟩ rfl rfl (lv_room (Nat.le_of_ble_eq_true rfl)) dX7_part_11 (fun H locs hI => ?_)
    refine lv_aload_n hx hb dX7_part_14 rfl (lv_at hl 0 rfl) ?_
    refine tget hx hb hts hown hE hI 11 (by decide) q2111 rfl dX7_part_15 ?_
    refine lv_aload_n hx hb dX7_part_18 rfl (lv_at hl 0 rfl) ?_
    refine tget hx hb hts hown hE hI 10 (by decide) q2110 rfl dX7_part_19 ?_
    refine lv_icmp_ge (tgt := 52) hx hb dX7_part_22 (by decide) (fun hc => ?_) (fun hc => ?_)
    · replace hf := ipos hc hf
      exact hJ52 t11 H locs ls hf hI  (lv_sub hl [0] rfl)
    · replace hf := ineg hc hf
      refine lv_aload_n hx hb dX7_part_25 rfl (lv_at hl 0 rfl) ?_
      refine lv_aload_n hx hb dX7_part_26 rfl (lv_at hl 0 rfl) ?_
      refine tget hx hb hts hown hE hI 11 (by decide) q2111 rfl dX7_part_27 ?_
      obtain ⟨x30, ex30, hf⟩ := obd hf
      refine tcallI (rest := []) hx hb hts hown hE hz hI hml hl.1 (mX7_letter t11 (t11 10 11) _ ex30) (cwX7_letter hts ⟨Nat.le_of_ble_eq_true rfl, Nat.le_of_ble_eq_true rfl⟩) ⟨Nat.le_of_ble_eq_true rfl, Nat.le_of_ble_eq_true rfl⟩ rfl rfl (lv_room (Nat.le_of_ble_eq_true rfl)) dX7_part_30 (fun H locs hI => ?_)
      refine lv_bipush (v := (48 : Int32)) hx hb dX7_part_33 (by decide) ?_
      refine lv_bipush (v := (57 : Int32)) hx hb dX7_part_35 (by decide) ?_
      obtain ⟨x37, ex37, hf⟩ := obd hf
      refine tcallS (rest := []) hx hb hts hown hml hl.1 (mX7_isIn x30 (48 : Int32) (57 : Int32) _ ex37) (cwX7_isIn hts ⟨Nat.le_of_ble_eq_true rfl, Nat.le_of_ble_eq_true rfl⟩) ⟨Nat.le_of_ble_eq_true rfl, Nat.le_of_ble_eq_true rfl⟩ rfl rfl (lv_room (Nat.le_of_ble_eq_true rfl)) dX7_part_37 ?_
      refine lv_if_eq (tgt := 52) hx hb dX7_part_40 (by decide) (fun hc => ?_) (fun hc => ?_)
      · replace hf := ipos hc hf
        exact hJ52 t11 H locs ls hf hI  (lv_sub hl [0] rfl)
      · replace hf := ineg hc hf
        refine lv_aload_n hx hb dX7_part_43 rfl (lv_at hl 0 rfl) ?_
        refine lv_iconst (v := (0 : Int32)) hx hb dX7_part_44 (by decide) ?_
        refine lv_sipush (v := (999 : Int32)) hx hb dX7_part_45 (by decide) ?_
        obtain ⟨x48, ex48, hf⟩ := obd hf
        refine tcallI (rest := []) hx hb hts hown hE hz hI hml hl.1 (mX7_figures t11 (0 : Int32) (999 : Int32) _ _ ex48) (cwX7_figures hts ⟨Nat.le_of_ble_eq_true rfl, Nat.le_of_ble_eq_true rfl⟩) ⟨Nat.le_of_ble_eq_true rfl, Nat.le_of_ble_eq_true rfl⟩ rfl rfl (lv_room (Nat.le_of_ble_eq_true rfl)) dX7_part_48 (fun H locs hI => ?_)
        have hf := Prod.mk.inj (Option.some.inj hf)
        rw [hf.1]
        exact hret H locs 51 ls (hf.2 ▸ hI) dX7_part_51
  · replace hf := ineg hc hf
    refine lv_iconst (v := (0 : Int32)) hx hb dX7_part_8 (by decide) ?_
    have hf := Prod.mk.inj (Option.some.inj hf)
    rw [hf.1]
    exact hret H locs 9 ls (hf.2 ▸ hI) dX7_part_9
theorem cwX7_part {R : Room} {s : State} {args : Array Value} {fr lo : Nat} (hts : ∀ w ∈ lw_all, w.before args s = true) (hR : fr + 1 ≤ R.frames ∧ 8 + (2 + 11) + lo ≤ R.locals) : CallW R s args RX7 RX7 219 yX7_part cX7_part 2 (some .int) (ws_ yX7_part cX7_part 2 (some .int)) ({ frames := fr, cells := 0, slots := 0, locals := lo }) 0 0 0 :=
  cwV 0 hts (lw_V q2275 q2277 qs76 q143 q2278) rfl rfl rfl (by decide +kernel) hR

def X7_sum_L5 (w5 : Mm × Int32) : Option ((Mm × Int32) ⊕ (Mm × Int32)) :=
  if (w5.1 10 12) = (-1 : Int32) then
    (X7_isSign w5.1 (43 : Int32)).bind fun x16 =>
    if x16.1 = (0 : Int32) then
      some (.inr (x16.2, w5.2))
    else
      (some (mup x16.2 10 11 ((x16.2 10 11) + (1 : Int32)))).bind fun t29 =>
      (X7_part t29).bind fun x34 =>
      (some (w5.2 + x34.1)).bind fun v38 =>
      some (.inl (x34.2, v38))
  else
    some (.inr (w5.1, w5.2))
def X7_sum (τ : Mm) : Option (Int32 × Mm) :=
  (X7_part τ).bind fun x1 =>
  (loopO (X7_sum_L5) FU (x1.2, x1.1)).bind fun e5 =>
  some (e5.2, e5.1)
set_option maxHeartbeats 4000000 in
theorem mX7_sum (τ : Mm) (r : Int32) (τ' : Mm) (hf : X7_sum τ = some (r, τ')) : TMi yX7_sum cX7_sum 2 (some .int) 10 444 (fun aK => []) r τ τ' := by
  refine TMi.of (by decide) rfl (fun _ _ => Nat.le_of_ble_eq_true rfl) ?_
  intro p l e s m args below meth c D cI cZ o z aK aV Q ls hz hx hb hml hown hts hE hret hI hl
  obtain ⟨H, eH⟩ : ∃ H, H = s.heap := ⟨_, rfl⟩
  obtain ⟨locs, eL⟩ : ∃ L : List Loc, L = [] := ⟨_, rfl⟩
  rw [← eH, ← eL] at hI ⊢
  have hl : lv_has ls 2 [(0, .ref o)] := hl
  unfold X7_sum at hf
  refine lv_aload_n hx hb dX7_sum_0 rfl (lv_at hl 0 rfl) ?_
  obtain ⟨x1, ex1, hf⟩ := obd hf
  refine tcallI (rest := []) hx hb hts hown hE hz hI hml hl.1 (mX7_part τ _ _ ex1) (cwX7_part hts ⟨Nat.le_of_ble_eq_true rfl, Nat.le_of_ble_eq_true rfl⟩) ⟨Nat.le_of_ble_eq_true rfl, Nat.le_of_ble_eq_true rfl⟩ rfl rfl (lv_room (Nat.le_of_ble_eq_true rfl)) dX7_sum_1 (fun H locs hI => ?_)
  refine lv_istore_n (lv' := [(1, .int x1.1), (0, .ref o)]) hx hb dX7_sum_4 rfl hl (by decide) rfl (fun ls hl => ?_)
  obtain ⟨e5, he5, hf⟩ := obd hf
  refine loopO_W (Wat := fun w5 => ∀ (H : Heap) (locs : List Loc) (ls : Array Slot), IT D cI cZ o s H locs w5.1 → lv_has ls 2 [(0, .ref o), (1, .int w5.2)] → W p l e ({ frames := 10, cells := 0, slots := 0, locals := 444 } : Room) s m args below meth c H locs 0 0 Q (F0 m 5 ls [])) (Wex := fun ex_ => ∀ (H : Heap) (locs : List Loc) (ls : Array Slot), IT D cI cZ o s H locs ex_.1 → lv_has ls 2 [(1, .int ex_.2)] → W p l e ({ frames := 10, cells := 0, slots := 0, locals := 444 } : Room) s m args below meth c H locs 0 0 Q (F0 m 42 ls [])) (fun w5 o5 hf hk hq => ?_) FU _ e5 he5 ?_ H locs ls hI (lv_sub hl [1, 0] rfl)
  · intro H locs ls hI hl
    unfold X7_sum_L5 at hf
    refine lv_aload_n hx hb dX7_sum_5 rfl (lv_at hl 0 rfl) ?_
    refine tget hx hb hts hown hE hI 12 (by decide) q2112 rfl dX7_sum_6 ?_
    refine lv_iconst (v := (-1 : Int32)) hx hb dX7_sum_9 (by decide) ?_
    refine lv_icmp_ne (tgt := 42) hx hb dX7_sum_10 (by decide) (fun hc => ?_) (fun hc => ?_)
    · replace hf := ineg hc hf
      exact hq _ (Option.some.inj hf).symm H locs ls hI (lv_sub hl [1] rfl)
    · replace hf := ipos hc hf
      refine lv_aload_n hx hb dX7_sum_13 rfl (lv_at hl 0 rfl) ?_
      refine lv_bipush (v := (43 : Int32)) hx hb dX7_sum_14 (by decide) ?_
      obtain ⟨x16, ex16, hf⟩ := obd hf
      refine tcallI (rest := []) hx hb hts hown hE hz hI hml hl.1 (mX7_isSign w5.1 (43 : Int32) _ _ ex16) (cwX7_isSign hts ⟨Nat.le_of_ble_eq_true rfl, Nat.le_of_ble_eq_true rfl⟩) ⟨Nat.le_of_ble_eq_true rfl, Nat.le_of_ble_eq_true rfl⟩ rfl rfl (lv_room (Nat.le_of_ble_eq_true rfl)) dX7_sum_16 (fun H locs hI => ?_)
      refine lv_if_eq (tgt := 42) hx hb dX7_sum_19 (by decide) (fun hc => ?_) (fun hc => ?_)
      · replace hf := ipos hc hf
        exact hq _ (Option.some.inj hf).symm H locs ls hI (lv_sub hl [1] rfl)
      · replace hf := ineg hc hf
        refine lv_aload_n hx hb dX7_sum_22 rfl (lv_at hl 0 rfl) ?_
        refine lv_dup hx hb dX7_sum_23 rfl ?_
        refine tget hx hb hts hown hE hI 11 (by decide) q2111 rfl dX7_sum_24 ?_
        refine lv_iconst (v := (1 : Int32)) hx hb dX7_sum_27 (by decide) ?_
        refine lv_iadd hx hb dX7_sum_28 ?_
        obtain ⟨t29, et29, hf⟩ := obd hf
        refine tput hx hb hts hown hE hI 11 (by decide) q2111 rfl (tyX7_ok 11 (by decide)) rfl rfl rfl et29 dX7_sum_29 (fun H locs hI => ?_)
        refine lv_iload_n hx hb dX7_sum_32 rfl (lv_at hl 1 rfl) ?_
        refine lv_aload_n hx hb dX7_sum_33 rfl (lv_at hl 0 rfl) ?_
        obtain ⟨x34, ex34, hf⟩ := obd hf
        refine tcallI (rest := [.int w5.2]) hx hb hts hown hE hz hI hml hl.1 (mX7_part t29 _ _ ex34) (cwX7_part hts ⟨Nat.le_of_ble_eq_true rfl, Nat.le_of_ble_eq_true rfl⟩) ⟨Nat.le_of_ble_eq_true rfl, Nat.le_of_ble_eq_true rfl⟩ rfl rfl (lv_room (Nat.le_of_ble_eq_true rfl)) dX7_sum_34 (fun H locs hI => ?_)
        refine lv_iadd hx hb dX7_sum_37 ?_
        obtain ⟨v38, ev38, hf⟩ := obd hf
        refine nmI ev38 ?_
        refine lv_istore_n (lv' := [(1, .int v38), (0, .ref o)]) hx hb dX7_sum_38 rfl hl (by decide) rfl (fun ls hl => ?_)
        refine lv_goto (tgt := 5) hx hb dX7_sum_39 (by decide) ?_
        exact hk _ (Option.some.inj hf).symm H locs ls hI (lv_sub hl [1, 0] rfl)
  · skip
    intro H locs ls hI hl
    refine lv_iload_n hx hb dX7_sum_42 rfl (lv_at hl 0 rfl) ?_
    have hf := Prod.mk.inj (Option.some.inj hf)
    rw [hf.1]
    exact hret H locs 43 ls (hf.2 ▸ hI) dX7_sum_43
theorem cwX7_sum {R : Room} {s : State} {args : Array Value} {fr lo : Nat} (hts : ∀ w ∈ lw_all, w.before args s = true) (hR : fr + 1 ≤ R.frames ∧ 8 + (2 + 11) + lo ≤ R.locals) : CallW R s args RX7 RX7 233 yX7_sum cX7_sum 2 (some .int) (ws_ yX7_sum cX7_sum 2 (some .int)) ({ frames := fr, cells := 0, slots := 0, locals := lo }) 0 0 0 :=
  cwV 0 hts (lw_V q2271 q2273 qs75 q143 q2274) rfl rfl rfl (by decide +kernel) hR

def X7_plain_J73 (τ : Mm) (x1 : Int32) (x2 : Int32) : Option (Int32 × Mm) :=
  (some (mup τ 10 11 ((τ 10 11) + (1 : Int32)))).bind fun t80 =>
  (X7_sum t80).bind fun x84 =>
  if x2 = (0 : Int32) then
    if x1 ≤ x84.1 then
      some ((0 : Int32), x84.2)
    else
      some ((1 : Int32), x84.2)
  else
    if x84.1 ≤ x1 then
      some ((0 : Int32), x84.2)
    else
      some ((1 : Int32), x84.2)
def X7_plain (τ : Mm) : Option (Int32 × Mm) :=
  (X7_has τ 24).bind fun x3 =>
  if x3.1 = (0 : Int32) then
    (X7_has x3.2 25).bind fun x17 =>
    if x17.1 = (0 : Int32) then
      (X7_sum x17.2).bind fun x29 =>
      if (x29.2 10 12) = (-1 : Int32) then
        (X7_isSign x29.2 (60 : Int32)).bind fun x46 =>
        if x46.1 = (0 : Int32) then
          (X7_isSign x46.2 (62 : Int32)).bind fun x57 =>
          if x57.1 = (0 : Int32) then
            (X7_wrong x57.2 (x57.2 10 11)).bind fun t68 =>
            some ((0 : Int32), t68)
          else
            X7_plain_J73 x57.2 x29.1 x46.1
        else
          X7_plain_J73 x46.2 x29.1 x46.1
      else
        some ((0 : Int32), x29.2)
    else
      (zb (x17.2 10 16)).bind fun _ =>
      some ((x17.2 10 16), x17.2)
  else
    (zb (x3.2 10 15)).bind fun _ =>
    some ((x3.2 10 15), x3.2)
set_option maxHeartbeats 4000000 in
theorem mX7_plain (τ : Mm) (r : Int32) (τ' : Mm) (hf : X7_plain τ = some (r, τ')) : TMi yX7_plain cX7_plain 4 (some .boolean) 11 465 (fun aK => []) r τ τ' := by
  refine TMz.of (by decide) rfl (fun _ _ => Nat.le_of_ble_eq_true rfl) ?_
  intro p l e s m args below meth c D cI cZ o z aK aV Q ls hz hx hb hml hown hts hE hret hI hl
  obtain ⟨H, eH⟩ : ∃ H, H = s.heap := ⟨_, rfl⟩
  obtain ⟨locs, eL⟩ : ∃ L : List Loc, L = [] := ⟨_, rfl⟩
  rw [← eH, ← eL] at hI ⊢
  have hl : lv_has ls 4 [(0, .ref o)] := hl
  unfold X7_plain at hf
  have hJ73 : ∀ (τ : Mm) (x1 : Int32) (x2 : Int32) (H : Heap) (locs : List Loc) (ls : Array Slot), X7_plain_J73 τ x1 x2 = some (r, τ') → IT D cI cZ o s H locs τ → lv_has ls 4 [(0, .ref o), (1, .int x1), (2, .int x2)] → W p l e ({ frames := 11, cells := 0, slots := 0, locals := 465 } : Room) s m args below meth c H locs 0 0 Q (F0 m 73 ls []) := by
    intro τ x1 x2 H locs ls hf hI hl
    unfold X7_plain_J73 at hf
    refine lv_aload_n hx hb dX7_plain_73 rfl (lv_at hl 0 rfl) ?_
    refine lv_dup hx hb dX7_plain_74 rfl ?_
    refine tget hx hb hts hown hE hI 11 (by decide) q2111 rfl dX7_plain_75 ?_
    refine lv_iconst (v := (1 : Int32)) hx hb dX7_plain_78 (by decide) ?_
    refine lv_iadd hx hb dX7_plain_79 ?_
    obtain ⟨t80, et80, hf⟩ := obd hf
    refine tput hx hb hts hown hE hI 11 (by decide) q2111 rfl (tyX7_ok 11 (by decide)) rfl rfl rfl et80 dX7_plain_80 (fun H locs hI => ?_)
    refine lv_aload_n hx hb dX7_plain_83 rfl (lv_at hl 0 rfl) ?_
    obtain ⟨x84, ex84, hf⟩ := obd hf
    refine tcallI (rest := []) hx hb hts hown hE hz hI hml hl.1 (mX7_sum t80 _ _ ex84) (cwX7_sum hts ⟨Nat.le_of_ble_eq_true rfl, Nat.le_of_ble_eq_true rfl⟩) ⟨Nat.le_of_ble_eq_true rfl, Nat.le_of_ble_eq_true rfl⟩ rfl rfl (lv_room (Nat.le_of_ble_eq_true rfl)) dX7_plain_84 (fun H locs hI => ?_)
    refine lv_istore_n (lv' := [(3, .int x84.1), (0, .ref o), (1, .int x1), (2, .int x2)]) hx hb dX7_plain_87 rfl hl (by decide) rfl (fun ls hl => ?_)
    refine lv_iload_n hx hb dX7_plain_88 rfl (lv_at hl 3 rfl) ?_
    refine lv_if_eq (tgt := 105) hx hb dX7_plain_89 (by decide) (fun hc => ?_) (fun hc => ?_)
    · replace hf := ipos hc hf
      refine lv_iload_n hx hb dX7_plain_105 rfl (lv_at hl 2 rfl) ?_
      refine lv_iload_n hx hb dX7_plain_106 rfl (lv_at hl 0 rfl) ?_
      refine lv_icmp_le (tgt := 114) hx hb dX7_plain_107 (by decide) (fun hc => ?_) (fun hc => ?_)
      · replace hf := ipos hc hf
        refine lv_iconst (v := (0 : Int32)) hx hb dX7_plain_114 (by decide) ?_
        have hf := Prod.mk.inj (Option.some.inj hf)
        rw [hf.1]
        exact hret H locs 115 ls (hf.2 ▸ hI) (hf.1 ▸ (by decide)) dX7_plain_115
      · replace hf := ineg hc hf
        refine lv_iconst (v := (1 : Int32)) hx hb dX7_plain_110 (by decide) ?_
        refine lv_goto (tgt := 115) hx hb dX7_plain_111 (by decide) ?_
        have hf := Prod.mk.inj (Option.some.inj hf)
        rw [hf.1]
        exact hret H locs 115 ls (hf.2 ▸ hI) (hf.1 ▸ (by decide)) dX7_plain_115
    · replace hf := ineg hc hf
      refine lv_iload_n hx hb dX7_plain_92 rfl (lv_at hl 2 rfl) ?_
      refine lv_iload_n hx hb dX7_plain_93 rfl (lv_at hl 0 rfl) ?_
      refine lv_icmp_ge (tgt := 101) hx hb dX7_plain_94 (by decide) (fun hc => ?_) (fun hc => ?_)
      · replace hf := ipos hc hf
        refine lv_iconst (v := (0 : Int32)) hx hb dX7_plain_101 (by decide) ?_
        refine lv_goto (tgt := 115) hx hb dX7_plain_102 (by decide) ?_
        have hf := Prod.mk.inj (Option.some.inj hf)
        rw [hf.1]
        exact hret H locs 115 ls (hf.2 ▸ hI) (hf.1 ▸ (by decide)) dX7_plain_115
      · replace hf := ineg hc hf
        refine lv_iconst (v := (1 : Int32)) hx hb dX7_plain_97 (by decide) ?_
        refine lv_goto (tgt := 115) hx hb dX7_plain_98 (by decide) ?_
        have hf := Prod.mk.inj (Option.some.inj hf)
        rw [hf.1]
        exact hret H locs 115 ls (hf.2 ▸ hI) (hf.1 ▸ (by decide)) dX7_plain_115
  refine lv_aload_n hx hb dX7_plain_0 rfl (lv_at hl 0 rfl) ?_
  refine va_ldcS hx hb hown (hE.2.at 33 rfl) dX7_plain_1 ?_
  obtain ⟨x3, ex3, hf⟩ := obd hf
  refine tcallI (rest := []) hx hb hts hown hE hz hI hml hl.1 (mX7_has τ 24 (by decide) _ _ ex3) (cwX7_has hts ⟨Nat.le_of_ble_eq_true rfl, Nat.le_of_ble_eq_true rfl⟩) ⟨Nat.le_of_ble_eq_true rfl, Nat.le_of_ble_eq_true rfl⟩ rfl rfl (lv_room (Nat.le_of_ble_eq_true rfl)) dX7_plain_3 (fun H locs hI => ?_)
  refine lv_if_eq (tgt := 14) hx hb dX7_plain_6 (by decide) (fun hc => ?_) (fun hc => ?_)
  · replace hf := ipos hc hf
    refine lv_aload_n hx hb dX7_plain_14 rfl (lv_at hl 0 rfl) ?_
    refine va_ldcS hx hb hown (hE.2.at 34 rfl) dX7_plain_15 ?_
    obtain ⟨x17, ex17, hf⟩ := obd hf
    refine tcallI (rest := []) hx hb hts hown hE hz hI hml hl.1 (mX7_has x3.2 25 (by decide) _ _ ex17) (cwX7_has hts ⟨Nat.le_of_ble_eq_true rfl, Nat.le_of_ble_eq_true rfl⟩) ⟨Nat.le_of_ble_eq_true rfl, Nat.le_of_ble_eq_true rfl⟩ rfl rfl (lv_room (Nat.le_of_ble_eq_true rfl)) dX7_plain_17 (fun H locs hI => ?_)
    refine lv_if_eq (tgt := 28) hx hb dX7_plain_20 (by decide) (fun hc => ?_) (fun hc => ?_)
    · replace hf := ipos hc hf
      refine lv_aload_n hx hb dX7_plain_28 rfl (lv_at hl 0 rfl) ?_
      obtain ⟨x29, ex29, hf⟩ := obd hf
      refine tcallI (rest := []) hx hb hts hown hE hz hI hml hl.1 (mX7_sum x17.2 _ _ ex29) (cwX7_sum hts ⟨Nat.le_of_ble_eq_true rfl, Nat.le_of_ble_eq_true rfl⟩) ⟨Nat.le_of_ble_eq_true rfl, Nat.le_of_ble_eq_true rfl⟩ rfl rfl (lv_room (Nat.le_of_ble_eq_true rfl)) dX7_plain_29 (fun H locs hI => ?_)
      refine lv_istore_n (lv' := [(1, .int x29.1), (0, .ref o)]) hx hb dX7_plain_32 rfl hl (by decide) rfl (fun ls hl => ?_)
      refine lv_aload_n hx hb dX7_plain_33 rfl (lv_at hl 1 rfl) ?_
      refine tget hx hb hts hown hE hI 12 (by decide) q2112 rfl dX7_plain_34 ?_
      refine lv_iconst (v := (-1 : Int32)) hx hb dX7_plain_37 (by decide) ?_
      refine lv_icmp_eq (tgt := 43) hx hb dX7_plain_38 (by decide) (fun hc => ?_) (fun hc => ?_)
      · replace hf := ipos hc hf
        refine lv_aload_n hx hb dX7_plain_43 rfl (lv_at hl 1 rfl) ?_
        refine lv_bipush (v := (60 : Int32)) hx hb dX7_plain_44 (by decide) ?_
        obtain ⟨x46, ex46, hf⟩ := obd hf
        refine tcallI (rest := []) hx hb hts hown hE hz hI hml hl.1 (mX7_isSign x29.2 (60 : Int32) _ _ ex46) (cwX7_isSign hts ⟨Nat.le_of_ble_eq_true rfl, Nat.le_of_ble_eq_true rfl⟩) ⟨Nat.le_of_ble_eq_true rfl, Nat.le_of_ble_eq_true rfl⟩ rfl rfl (lv_room (Nat.le_of_ble_eq_true rfl)) dX7_plain_46 (fun H locs hI => ?_)
        refine lv_istore_n (lv' := [(2, .int x46.1), (1, .int x29.1), (0, .ref o)]) hx hb dX7_plain_49 rfl hl (by decide) rfl (fun ls hl => ?_)
        refine lv_iload_n hx hb dX7_plain_50 rfl (lv_at hl 0 rfl) ?_
        refine lv_if_ne (tgt := 73) hx hb dX7_plain_51 (by decide) (fun hc => ?_) (fun hc => ?_)
        · replace hf := ineg hc hf
          exact hJ73 x46.2 x29.1 x46.1 H locs ls hf hI  (lv_sub hl [2, 1, 0] rfl)
        · replace hf := ipos hc hf
          refine lv_aload_n hx hb dX7_plain_54 rfl (lv_at hl 2 rfl) ?_
          refine lv_bipush (v := (62 : Int32)) hx hb dX7_plain_55 (by decide) ?_
          obtain ⟨x57, ex57, hf⟩ := obd hf
          refine tcallI (rest := []) hx hb hts hown hE hz hI hml hl.1 (mX7_isSign x46.2 (62 : Int32) _ _ ex57) (cwX7_isSign hts ⟨Nat.le_of_ble_eq_true rfl, Nat.le_of_ble_eq_true rfl⟩) ⟨Nat.le_of_ble_eq_true rfl, Nat.le_of_ble_eq_true rfl⟩ rfl rfl (lv_room (Nat.le_of_ble_eq_true rfl)) dX7_plain_57 (fun H locs hI => ?_)
          refine lv_if_ne (tgt := 73) hx hb dX7_plain_60 (by decide) (fun hc => ?_) (fun hc => ?_)
          · replace hf := ineg hc hf
            exact hJ73 x57.2 x29.1 x46.1 H locs ls hf hI  (lv_sub hl [2, 1, 0] rfl)
          · replace hf := ipos hc hf
            refine lv_aload_n hx hb dX7_plain_63 rfl (lv_at hl 2 rfl) ?_
            refine lv_aload_n hx hb dX7_plain_64 rfl (lv_at hl 2 rfl) ?_
            refine tget hx hb hts hown hE hI 11 (by decide) q2111 rfl dX7_plain_65 ?_
            obtain ⟨t68, et68, hf⟩ := obd hf
            refine tcallV (rest := []) hx hb hts hown hE hz hI hml hl.1 (mX7_wrong x57.2 (x57.2 10 11) _ et68) (cwX7_wrong hts ⟨Nat.le_of_ble_eq_true rfl, Nat.le_of_ble_eq_true rfl⟩) ⟨Nat.le_of_ble_eq_true rfl, Nat.le_of_ble_eq_true rfl⟩ rfl rfl (lv_room (Nat.le_of_ble_eq_true rfl)) dX7_plain_68 (fun H locs hI => ?_)
            refine lv_iconst (v := (0 : Int32)) hx hb dX7_plain_71 (by decide) ?_
            have hf := Prod.mk.inj (Option.some.inj hf)
            rw [hf.1]
            exact hret H locs 72 ls (hf.2 ▸ hI) (hf.1 ▸ (by decide)) dX7_plain_72
      · replace hf := ineg hc hf
        refine lv_iconst (v := (0 : Int32)) hx hb dX7_plain_41 (by decide) ?_
        have hf := Prod.mk.inj (Option.some.inj hf)
        rw [hf.1]
        exact hret H locs 42 ls (hf.2 ▸ hI) (hf.1 ▸ (by decide)) dX7_plain_42
    · replace hf := ineg hc hf
      refine lv_aload_n hx hb dX7_plain_23 rfl (lv_at hl 0 rfl) ?_
      refine tget hx hb hts hown hE hI 16 (by decide) q2116 rfl dX7_plain_24 ?_
      obtain ⟨_, eb27, hf⟩ := obd hf
      have hf := Prod.mk.inj (Option.some.inj hf)
      rw [hf.1]
      exact hret H locs 27 ls (hf.2 ▸ hI) (hf.1 ▸ (zb_e eb27).2) dX7_plain_27
  · replace hf := ineg hc hf
    refine lv_aload_n hx hb dX7_plain_9 rfl (lv_at hl 0 rfl) ?_
    refine tget hx hb hts hown hE hI 15 (by decide) q2115 rfl dX7_plain_10 ?_
    obtain ⟨_, eb13, hf⟩ := obd hf
    have hf := Prod.mk.inj (Option.some.inj hf)
    rw [hf.1]
    exact hret H locs 13 ls (hf.2 ▸ hI) (hf.1 ▸ (zb_e eb13).2) dX7_plain_13
theorem cwX7_plain {R : Room} {s : State} {args : Array Value} {fr lo : Nat} (hts : ∀ w ∈ lw_all, w.before args s = true) (hR : fr + 1 ≤ R.frames ∧ 8 + (4 + 11) + lo ≤ R.locals) : CallW R s args RX7 RX7 237 yX7_plain cX7_plain 4 (some .boolean) (ws_ yX7_plain cX7_plain 4 (some .boolean)) ({ frames := fr, cells := 0, slots := 0, locals := lo }) 0 0 0 :=
  cwV 0 hts (lw_V q2265 q2267 qs74 q143 q2268) rfl rfl rfl (by decide +kernel) hR

theorem cwX7_atom {R : Room} {s : State} {args : Array Value} {fr lo : Nat} (hts : ∀ w ∈ lw_all, w.before args s = true) (hR : fr + 1 ≤ R.frames ∧ 8 + (4 + 11) + lo ≤ R.locals) : CallW R s args RX7 RX7 241 yX7_atom cX7_atom 4 (some .boolean) (ws_ yX7_atom cX7_atom 4 (some .boolean)) ({ frames := fr, cells := 0, slots := 0, locals := lo }) 0 0 0 :=
  cwV 0 hts (lw_V q2256 q2258 qs72 q143 q2259) rfl rfl rfl (by decide +kernel) hR
def X7_every_L5 (A : Mm → Option (Int32 × Mm)) (w5 : Mm × Int32) : Option ((Mm × Int32) ⊕ (Mm × Int32)) :=
  if (w5.1 10 12) = (-1 : Int32) then
    (X7_has w5.1 26).bind fun x16 =>
    if x16.1 = (0 : Int32) then
      some (.inr (x16.2, w5.2))
    else
      (A x16.2).bind fun x23 =>
      if w5.2 = (0 : Int32) then
        some (.inl (x23.2, (0 : Int32)))
      else
        if x23.1 = (0 : Int32) then
          some (.inl (x23.2, (0 : Int32)))
        else
          some (.inl (x23.2, (1 : Int32)))
  else
    some (.inr (w5.1, w5.2))
def X7_every (A : Mm → Option (Int32 × Mm)) (τ : Mm) : Option (Int32 × Mm) :=
  (A τ).bind fun x1 =>
  (loopO (X7_every_L5 A) FU (x1.2, x1.1)).bind fun e5 =>
  (zb e5.2).bind fun _ =>
  some (e5.2, e5.1)
set_option maxHeartbeats 4000000 in
theorem mX7_every (A : Mm → Option (Int32 × Mm)) (fr : Nat) (lo : Nat) (hA : ∀ (τ : Mm) (r : Int32) (τ' : Mm), A τ = some (r, τ') → TMi yX7_atom cX7_atom 4 (some .boolean) fr lo (fun _ => []) r τ τ') (τ : Mm) (r : Int32) (τ' : Mm) (hf : X7_every A τ = some (r, τ')) : TMi yX7_every cX7_every 3 (some .boolean) (fr + 20) (lo + 600) (fun aK => []) r τ τ' := by
  refine TMz.of (by decide) rfl (fun _ _ => Nat.le_of_ble_eq_true rfl) ?_
  intro p l e s m args below meth c D cI cZ o z aK aV Q ls hz hx hb hml hown hts hE hret hI hl
  obtain ⟨H, eH⟩ : ∃ H, H = s.heap := ⟨_, rfl⟩
  obtain ⟨locs, eL⟩ : ∃ L : List Loc, L = [] := ⟨_, rfl⟩
  rw [← eH, ← eL] at hI ⊢
  have hl : lv_has ls 3 [(0, .ref o)] := hl
  unfold X7_every at hf
  refine lv_aload_n hx hb dX7_every_0 rfl (lv_at hl 0 rfl) ?_
  obtain ⟨x1, ex1, hf⟩ := obd hf
  refine tcallI (rest := []) hx hb hts hown hE hz hI hml hl.1 (hA τ _ _ ex1) (cwX7_atom hts ⟨(by show _ ≤ _; simp only []; omega), (by show _ ≤ _; simp only []; omega)⟩) ⟨Nat.le_of_ble_eq_true rfl, Nat.le_of_ble_eq_true rfl⟩ rfl rfl (lv_room (Nat.le_of_ble_eq_true rfl)) dX7_every_1 (fun H locs hI => ?_)
  refine lv_istore_n (lv' := [(1, .int x1.1), (0, .ref o)]) hx hb dX7_every_4 rfl hl (by decide) rfl (fun ls hl => ?_)
  obtain ⟨e5, he5, hf⟩ := obd hf
  refine loopO_W (Wat := fun w5 => ∀ (H : Heap) (locs : List Loc) (ls : Array Slot), IT D cI cZ o s H locs w5.1 → lv_has ls 3 [(0, .ref o), (1, .int w5.2)] → W p l e ({ frames := (fr + 20), cells := 0, slots := 0, locals := (lo + 600) } : Room) s m args below meth c H locs 0 0 Q (F0 m 5 ls [])) (Wex := fun ex_ => ∀ (H : Heap) (locs : List Loc) (ls : Array Slot), IT D cI cZ o s H locs ex_.1 → lv_has ls 3 [(1, .int ex_.2)] → W p l e ({ frames := (fr + 20), cells := 0, slots := 0, locals := (lo + 600) } : Room) s m args below meth c H locs 0 0 Q (F0 m 44 ls [])) (fun w5 o5 hf hk hq => ?_) FU _ e5 he5 ?_ H locs ls hI (lv_sub hl [1, 0] rfl)
  · intro H locs ls hI hl
    unfold X7_every_L5 at hf
    refine lv_aload_n hx hb dX7_every_5 rfl (lv_at hl 0 rfl) ?_
    refine tget hx hb hts hown hE hI 12 (by decide) q2112 rfl dX7_every_6 ?_
    refine lv_iconst (v := (-1 : Int32)) hx hb dX7_every_9 (by decide) ?_
    refine lv_icmp_ne (tgt := 44) hx hb dX7_every_10 (by decide) (fun hc => ?_) (fun hc => ?_)
    · replace hf := ineg hc hf
      exact hq _ (Option.some.inj hf).symm H locs ls hI (lv_sub hl [1] rfl)
    · replace hf := ipos hc hf
      refine lv_aload_n hx hb dX7_every_13 rfl (lv_at hl 0 rfl) ?_
      refine va_ldcS hx hb hown (hE.2.at 41 rfl) dX7_every_14 ?_
      obtain ⟨x16, ex16, hf⟩ := obd hf
      refine tcallI (rest := []) hx hb hts hown hE hz hI hml hl.1 (mX7_has w5.1 26 (by decide) _ _ ex16) (cwX7_has hts ⟨(by show _ ≤ _; simp only []; omega), (by show _ ≤ _; simp only []; omega)⟩) ⟨Nat.le_of_ble_eq_true rfl, Nat.le_of_ble_eq_true rfl⟩ rfl rfl (lv_room (Nat.le_of_ble_eq_true rfl)) dX7_every_16 (fun H locs hI => ?_)
      refine lv_if_eq (tgt := 44) hx hb dX7_every_19 (by decide) (fun hc => ?_) (fun hc => ?_)
      · replace hf := ipos hc hf
        exact hq _ (Option.some.inj hf).symm H locs ls hI (lv_sub hl [1] rfl)
      · replace hf := ineg hc hf
        refine lv_aload_n hx hb dX7_every_22 rfl (lv_at hl 0 rfl) ?_
        obtain ⟨x23, ex23, hf⟩ := obd hf
        refine tcallI (rest := []) hx hb hts hown hE hz hI hml hl.1 (hA x16.2 _ _ ex23) (cwX7_atom hts ⟨(by show _ ≤ _; simp only []; omega), (by show _ ≤ _; simp only []; omega)⟩) ⟨Nat.le_of_ble_eq_true rfl, Nat.le_of_ble_eq_true rfl⟩ rfl rfl (lv_room (Nat.le_of_ble_eq_true rfl)) dX7_every_23 (fun H locs hI => ?_)
        refine lv_istore_n (lv' := [(2, .int x23.1), (0, .ref o), (1, .int w5.2)]) hx hb dX7_every_26 rfl hl (by decide) rfl (fun ls hl => ?_)
        refine lv_iload_n hx hb dX7_every_27 rfl (lv_at hl 2 rfl) ?_
        refine lv_if_eq (tgt := 39) hx hb dX7_every_28 (by decide) (fun hc => ?_) (fun hc => ?_)
        · replace hf := ipos hc hf
          refine lv_iconst (v := (0 : Int32)) hx hb dX7_every_39 (by decide) ?_
          refine lv_istore_n (lv' := [(1, .int (0 : Int32)), (2, .int x23.1), (0, .ref o)]) hx hb dX7_every_40 rfl hl (by decide) rfl (fun ls hl => ?_)
          refine lv_goto (tgt := 5) hx hb dX7_every_41 (by decide) ?_
          exact hk _ (Option.some.inj hf).symm H locs ls hI (lv_sub hl [2, 0] rfl)
        · replace hf := ineg hc hf
          refine lv_iload_n hx hb dX7_every_31 rfl (lv_at hl 0 rfl) ?_
          refine lv_if_eq (tgt := 39) hx hb dX7_every_32 (by decide) (fun hc => ?_) (fun hc => ?_)
          · replace hf := ipos hc hf
            refine lv_iconst (v := (0 : Int32)) hx hb dX7_every_39 (by decide) ?_
            refine lv_istore_n (lv' := [(1, .int (0 : Int32)), (2, .int x23.1), (0, .ref o)]) hx hb dX7_every_40 rfl hl (by decide) rfl (fun ls hl => ?_)
            refine lv_goto (tgt := 5) hx hb dX7_every_41 (by decide) ?_
            exact hk _ (Option.some.inj hf).symm H locs ls hI (lv_sub hl [2, 0] rfl)
          · replace hf := ineg hc hf
            refine lv_iconst (v := (1 : Int32)) hx hb dX7_every_35 (by decide) ?_
            refine lv_goto (tgt := 40) hx hb dX7_every_36 (by decide) ?_
            refine lv_istore_n (lv' := [(1, .int (1 : Int32)), (2, .int x23.1), (0, .ref o)]) hx hb dX7_every_40 rfl hl (by decide) rfl (fun ls hl => ?_)
            refine lv_goto (tgt := 5) hx hb dX7_every_41 (by decide) ?_
            exact hk _ (Option.some.inj hf).symm H locs ls hI (lv_sub hl [2, 0] rfl)
  · skip
    intro H locs ls hI hl
    refine lv_iload_n hx hb dX7_every_44 rfl (lv_at hl 0 rfl) ?_
    obtain ⟨_, eb45, hf⟩ := obd hf
    have hf := Prod.mk.inj (Option.some.inj hf)
    rw [hf.1]
    exact hret H locs 45 ls (hf.2 ▸ hI) (hf.1 ▸ (zb_e eb45).2) dX7_every_45
theorem cwX7_every {R : Room} {s : State} {args : Array Value} {fr lo : Nat} (hts : ∀ w ∈ lw_all, w.before args s = true) (hR : fr + 1 ≤ R.frames ∧ 8 + (3 + 11) + lo ≤ R.locals) : CallW R s args RX7 RX7 249 yX7_every cX7_every 3 (some .boolean) (ws_ yX7_every cX7_every 3 (some .boolean)) ({ frames := fr, cells := 0, slots := 0, locals := lo }) 0 0 0 :=
  cwV 0 hts (lw_V q2252 q2254 qs71 q143 q2255) rfl rfl rfl (by decide +kernel) hR

def X7_some_L5 (A : Mm → Option (Int32 × Mm)) (w5 : Mm × Int32) : Option ((Mm × Int32) ⊕ (Mm × Int32)) :=
  if (w5.1 10 12) = (-1 : Int32) then
    (X7_has w5.1 27).bind fun x16 =>
    if x16.1 = (0 : Int32) then
      some (.inr (x16.2, w5.2))
    else
      (X7_every A x16.2).bind fun x23 =>
      if w5.2 = (0 : Int32) then
        if x23.1 = (0 : Int32) then
          some (.inl (x23.2, (0 : Int32)))
        else
          some (.inl (x23.2, (1 : Int32)))
      else
        some (.inl (x23.2, (1 : Int32)))
  else
    some (.inr (w5.1, w5.2))
def X7_some (A : Mm → Option (Int32 × Mm)) (τ : Mm) : Option (Int32 × Mm) :=
  (X7_every A τ).bind fun x1 =>
  (loopO (X7_some_L5 A) FU (x1.2, x1.1)).bind fun e5 =>
  (zb e5.2).bind fun _ =>
  some (e5.2, e5.1)
set_option maxHeartbeats 4000000 in
theorem mX7_some (A : Mm → Option (Int32 × Mm)) (fr : Nat) (lo : Nat) (hA : ∀ (τ : Mm) (r : Int32) (τ' : Mm), A τ = some (r, τ') → TMi yX7_atom cX7_atom 4 (some .boolean) fr lo (fun _ => []) r τ τ') (τ : Mm) (r : Int32) (τ' : Mm) (hf : X7_some A τ = some (r, τ')) : TMi yX7_some cX7_some 3 (some .boolean) (fr + 40) (lo + 1200) (fun aK => []) r τ τ' := by
  refine TMz.of (by decide) rfl (fun _ _ => Nat.le_of_ble_eq_true rfl) ?_
  intro p l e s m args below meth c D cI cZ o z aK aV Q ls hz hx hb hml hown hts hE hret hI hl
  obtain ⟨H, eH⟩ : ∃ H, H = s.heap := ⟨_, rfl⟩
  obtain ⟨locs, eL⟩ : ∃ L : List Loc, L = [] := ⟨_, rfl⟩
  rw [← eH, ← eL] at hI ⊢
  have hl : lv_has ls 3 [(0, .ref o)] := hl
  unfold X7_some at hf
  refine lv_aload_n hx hb dX7_some_0 rfl (lv_at hl 0 rfl) ?_
  obtain ⟨x1, ex1, hf⟩ := obd hf
  refine tcallI (rest := []) hx hb hts hown hE hz hI hml hl.1 (mX7_every A fr lo hA τ _ _ ex1) (cwX7_every hts ⟨(by show _ ≤ _; simp only []; omega), (by show _ ≤ _; simp only []; omega)⟩) ⟨Nat.le_of_ble_eq_true rfl, Nat.le_of_ble_eq_true rfl⟩ rfl rfl (lv_room (Nat.le_of_ble_eq_true rfl)) dX7_some_1 (fun H locs hI => ?_)
  refine lv_istore_n (lv' := [(1, .int x1.1), (0, .ref o)]) hx hb dX7_some_4 rfl hl (by decide) rfl (fun ls hl => ?_)
  obtain ⟨e5, he5, hf⟩ := obd hf
  refine loopO_W (Wat := fun w5 => ∀ (H : Heap) (locs : List Loc) (ls : Array Slot), IT D cI cZ o s H locs w5.1 → lv_has ls 3 [(0, .ref o), (1, .int w5.2)] → W p l e ({ frames := (fr + 40), cells := 0, slots := 0, locals := (lo + 1200) } : Room) s m args below meth c H locs 0 0 Q (F0 m 5 ls [])) (Wex := fun ex_ => ∀ (H : Heap) (locs : List Loc) (ls : Array Slot), IT D cI cZ o s H locs ex_.1 → lv_has ls 3 [(1, .int ex_.2)] → W p l e ({ frames := (fr + 40), cells := 0, slots := 0, locals := (lo + 1200) } : Room) s m args below meth c H locs 0 0 Q (F0 m 44 ls [])) (fun w5 o5 hf hk hq => ?_) FU _ e5 he5 ?_ H locs ls hI (lv_sub hl [1, 0] rfl)
  · intro H locs ls hI hl
    unfold X7_some_L5 at hf
    refine lv_aload_n hx hb dX7_some_5 rfl (lv_at hl 0 rfl) ?_
    refine tget hx hb hts hown hE hI 12 (by decide) q2112 rfl dX7_some_6 ?_
    refine lv_iconst (v := (-1 : Int32)) hx hb dX7_some_9 (by decide) ?_
    refine lv_icmp_ne (tgt := 44) hx hb dX7_some_10 (by decide) (fun hc => ?_) (fun hc => ?_)
    · replace hf := ineg hc hf
      exact hq _ (Option.some.inj hf).symm H locs ls hI (lv_sub hl [1] rfl)
    · replace hf := ipos hc hf
      refine lv_aload_n hx hb dX7_some_13 rfl (lv_at hl 0 rfl) ?_
      refine va_ldcS hx hb hown (hE.2.at 42 rfl) dX7_some_14 ?_
      obtain ⟨x16, ex16, hf⟩ := obd hf
      refine tcallI (rest := []) hx hb hts hown hE hz hI hml hl.1 (mX7_has w5.1 27 (by decide) _ _ ex16) (cwX7_has hts ⟨(by show _ ≤ _; simp only []; omega), (by show _ ≤ _; simp only []; omega)⟩) ⟨Nat.le_of_ble_eq_true rfl, Nat.le_of_ble_eq_true rfl⟩ rfl rfl (lv_room (Nat.le_of_ble_eq_true rfl)) dX7_some_16 (fun H locs hI => ?_)
      refine lv_if_eq (tgt := 44) hx hb dX7_some_19 (by decide) (fun hc => ?_) (fun hc => ?_)
      · replace hf := ipos hc hf
        exact hq _ (Option.some.inj hf).symm H locs ls hI (lv_sub hl [1] rfl)
      · replace hf := ineg hc hf
        refine lv_aload_n hx hb dX7_some_22 rfl (lv_at hl 0 rfl) ?_
        obtain ⟨x23, ex23, hf⟩ := obd hf
        refine tcallI (rest := []) hx hb hts hown hE hz hI hml hl.1 (mX7_every A fr lo hA x16.2 _ _ ex23) (cwX7_every hts ⟨(by show _ ≤ _; simp only []; omega), (by show _ ≤ _; simp only []; omega)⟩) ⟨Nat.le_of_ble_eq_true rfl, Nat.le_of_ble_eq_true rfl⟩ rfl rfl (lv_room (Nat.le_of_ble_eq_true rfl)) dX7_some_23 (fun H locs hI => ?_)
        refine lv_istore_n (lv' := [(2, .int x23.1), (0, .ref o), (1, .int w5.2)]) hx hb dX7_some_26 rfl hl (by decide) rfl (fun ls hl => ?_)
        refine lv_iload_n hx hb dX7_some_27 rfl (lv_at hl 2 rfl) ?_
        refine lv_if_ne (tgt := 35) hx hb dX7_some_28 (by decide) (fun hc => ?_) (fun hc => ?_)
        · replace hf := ineg hc hf
          refine lv_iconst (v := (1 : Int32)) hx hb dX7_some_35 (by decide) ?_
          refine lv_goto (tgt := 40) hx hb dX7_some_36 (by decide) ?_
          refine lv_istore_n (lv' := [(1, .int (1 : Int32)), (2, .int x23.1), (0, .ref o)]) hx hb dX7_some_40 rfl hl (by decide) rfl (fun ls hl => ?_)
          refine lv_goto (tgt := 5) hx hb dX7_some_41 (by decide) ?_
          exact hk _ (Option.some.inj hf).symm H locs ls hI (lv_sub hl [2, 0] rfl)
        · replace hf := ipos hc hf
          refine lv_iload_n hx hb dX7_some_31 rfl (lv_at hl 0 rfl) ?_
          refine lv_if_eq (tgt := 39) hx hb dX7_some_32 (by decide) (fun hc => ?_) (fun hc => ?_)
          · replace hf := ipos hc hf
            refine lv_iconst (v := (0 : Int32)) hx hb dX7_some_39 (by decide) ?_
            refine lv_istore_n (lv' := [(1, .int (0 : Int32)), (2, .int x23.1), (0, .ref o)]) hx hb dX7_some_40 rfl hl (by decide) rfl (fun ls hl => ?_)
            refine lv_goto (tgt := 5) hx hb dX7_some_41 (by decide) ?_
            exact hk _ (Option.some.inj hf).symm H locs ls hI (lv_sub hl [2, 0] rfl)
          · replace hf := ineg hc hf
            refine lv_iconst (v := (1 : Int32)) hx hb dX7_some_35 (by decide) ?_
            refine lv_goto (tgt := 40) hx hb dX7_some_36 (by decide) ?_
            refine lv_istore_n (lv' := [(1, .int (1 : Int32)), (2, .int x23.1), (0, .ref o)]) hx hb dX7_some_40 rfl hl (by decide) rfl (fun ls hl => ?_)
            refine lv_goto (tgt := 5) hx hb dX7_some_41 (by decide) ?_
            exact hk _ (Option.some.inj hf).symm H locs ls hI (lv_sub hl [2, 0] rfl)
  · skip
    intro H locs ls hI hl
    refine lv_iload_n hx hb dX7_some_44 rfl (lv_at hl 0 rfl) ?_
    obtain ⟨_, eb45, hf⟩ := obd hf
    have hf := Prod.mk.inj (Option.some.inj hf)
    rw [hf.1]
    exact hret H locs 45 ls (hf.2 ▸ hI) (hf.1 ▸ (zb_e eb45).2) dX7_some_45
theorem cwX7_some {R : Room} {s : State} {args : Array Value} {fr lo : Nat} (hts : ∀ w ∈ lw_all, w.before args s = true) (hR : fr + 1 ≤ R.frames ∧ 8 + (3 + 11) + lo ≤ R.locals) : CallW R s args RX7 RX7 244 yX7_some cX7_some 3 (some .boolean) (ws_ yX7_some cX7_some 3 (some .boolean)) ({ frames := fr, cells := 0, slots := 0, locals := lo }) 0 0 0 :=
  cwV 0 hts (lw_V q2248 q2250 qs70 q143 q2251) rfl rfl rfl (by decide +kernel) hR

def X7_atom_J138 (A : Mm → Option (Int32 × Mm)) (τ : Mm) (x3 : Int32) : Option (Int32 × Mm) :=
  (some (mup τ 10 13 ((τ 10 13) - (1 : Int32)))).bind fun t145 =>
  (zb x3).bind fun _ =>
  some (x3, t145)
def X7_atom_J128 (A : Mm → Option (Int32 × Mm)) (τ : Mm) (x3 : Int32) : Option (Int32 × Mm) :=
  (some (mup τ 10 11 ((τ 10 11) + (1 : Int32)))).bind fun t135 =>
  X7_atom_J138 A t135 x3
def X7_atom_J84 (A : Mm → Option (Int32 × Mm)) (τ : Mm) (y0 : Int32) : Option (Int32 × Mm) :=
  X7_atom_J138 A τ y0
def X7_atom_J40 (A : Mm → Option (Int32 × Mm)) (τ : Mm) (x1 : Int32) (x2 : Int32) : Option (Int32 × Mm) :=
  if (τ 10 13) = (6 : Int32) then
    (X7_wrong τ x1).bind fun t51 =>
    some ((0 : Int32), t51)
  else
    (some (mup τ 10 13 ((τ 10 13) + (1 : Int32)))).bind fun t63 =>
    if x2 = (0 : Int32) then
      (some (mup t63 10 11 ((t63 10 11) + (1 : Int32)))).bind fun t95 =>
      (X7_some A t95).bind fun x99 =>
      if (x99.2 10 12) = (-1 : Int32) then
        (X7_isSign x99.2 (41 : Int32)).bind fun x114 =>
        if x114.1 = (0 : Int32) then
          (X7_wrong x114.2 (x114.2 10 11)).bind fun t125 =>
          X7_atom_J128 A t125 x99.1
        else
          X7_atom_J128 A x114.2 x99.1
      else
        X7_atom_J128 A x99.2 x99.1
    else
      (A t63).bind fun x73 =>
      if x73.1 = (0 : Int32) then
        X7_atom_J84 A x73.2 (1 : Int32)
      else
        X7_atom_J84 A x73.2 (0 : Int32)
def X7_atomB (A : Mm → Option (Int32 × Mm)) (τ : Mm) : Option (Int32 × Mm) :=
  if (τ 10 12) = (-1 : Int32) then
    (X7_here τ).bind fun x11 =>
    (X7_has x11.2 23).bind fun x18 =>
    if x18.1 = (0 : Int32) then
      (X7_isSign x18.2 (40 : Int32)).bind fun x29 =>
      if x29.1 = (0 : Int32) then
        (X7_plain x29.2).bind fun x36 =>
        (zb x36.1).bind fun _ =>
        some (x36.1, x36.2)
      else
        X7_atom_J40 A x29.2 x11.1 x18.1
    else
      X7_atom_J40 A x18.2 x11.1 x18.1
  else
    some ((0 : Int32), τ)
set_option maxHeartbeats 4000000 in
theorem mX7_atomB (A : Mm → Option (Int32 × Mm)) (fr : Nat) (lo : Nat) (hA : ∀ (τ : Mm) (r : Int32) (τ' : Mm), A τ = some (r, τ') → TMi yX7_atom cX7_atom 4 (some .boolean) fr lo (fun _ => []) r τ τ') (τ : Mm) (r : Int32) (τ' : Mm) (hf : X7_atomB A τ = some (r, τ')) : TMi yX7_atom cX7_atom 4 (some .boolean) (fr + 60) (lo + 1800) (fun aK => []) r τ τ' := by
  refine TMz.of (by decide) rfl (fun _ _ => Nat.le_of_ble_eq_true rfl) ?_
  intro p l e s m args below meth c D cI cZ o z aK aV Q ls hz hx hb hml hown hts hE hret hI hl
  obtain ⟨H, eH⟩ : ∃ H, H = s.heap := ⟨_, rfl⟩
  obtain ⟨locs, eL⟩ : ∃ L : List Loc, L = [] := ⟨_, rfl⟩
  rw [← eH, ← eL] at hI ⊢
  have hl : lv_has ls 4 [(0, .ref o)] := hl
  unfold X7_atomB at hf
  have hJ138 : ∀ (τ : Mm) (x3 : Int32) (H : Heap) (locs : List Loc) (ls : Array Slot), X7_atom_J138 A τ x3 = some (r, τ') → IT D cI cZ o s H locs τ → lv_has ls 4 [(0, .ref o), (3, .int x3)] → W p l e ({ frames := (fr + 60), cells := 0, slots := 0, locals := (lo + 1800) } : Room) s m args below meth c H locs 0 0 Q (F0 m 138 ls []) := by
    intro τ x3 H locs ls hf hI hl
    unfold X7_atom_J138 at hf
    refine lv_aload_n hx hb dX7_atom_138 rfl (lv_at hl 0 rfl) ?_
    refine lv_dup hx hb dX7_atom_139 rfl ?_
    refine tget hx hb hts hown hE hI 13 (by decide) q2113 rfl dX7_atom_140 ?_
    refine lv_iconst (v := (1 : Int32)) hx hb dX7_atom_143 (by decide) ?_
    refine lv_isub hx hb dX7_atom_144 ?_
    obtain ⟨t145, et145, hf⟩ := obd hf
    refine tput hx hb hts hown hE hI 13 (by decide) q2113 rfl (tyX7_ok 13 (by decide)) rfl rfl rfl et145 dX7_atom_145 (fun H locs hI => ?_)
    refine lv_iload_n hx hb dX7_atom_148 rfl (lv_at hl 1 rfl) ?_
    obtain ⟨_, eb149, hf⟩ := obd hf
    have hf := Prod.mk.inj (Option.some.inj hf)
    rw [hf.1]
    exact hret H locs 149 ls (hf.2 ▸ hI) (hf.1 ▸ (zb_e eb149).2) dX7_atom_149
  have hJ128 : ∀ (τ : Mm) (x3 : Int32) (H : Heap) (locs : List Loc) (ls : Array Slot), X7_atom_J128 A τ x3 = some (r, τ') → IT D cI cZ o s H locs τ → lv_has ls 4 [(0, .ref o), (3, .int x3)] → W p l e ({ frames := (fr + 60), cells := 0, slots := 0, locals := (lo + 1800) } : Room) s m args below meth c H locs 0 0 Q (F0 m 128 ls []) := by
    intro τ x3 H locs ls hf hI hl
    unfold X7_atom_J128 at hf
    refine lv_aload_n hx hb dX7_atom_128 rfl (lv_at hl 0 rfl) ?_
    refine lv_dup hx hb dX7_atom_129 rfl ?_
    refine tget hx hb hts hown hE hI 11 (by decide) q2111 rfl dX7_atom_130 ?_
    refine lv_iconst (v := (1 : Int32)) hx hb dX7_atom_133 (by decide) ?_
    refine lv_iadd hx hb dX7_atom_134 ?_
    obtain ⟨t135, et135, hf⟩ := obd hf
    refine tput hx hb hts hown hE hI 11 (by decide) q2111 rfl (tyX7_ok 11 (by decide)) rfl rfl rfl et135 dX7_atom_135 (fun H locs hI => ?_)
    exact hJ138 t135 x3 H locs ls hf hI  (lv_sub hl [0, 1] rfl)
  have hJ84 : ∀ (τ : Mm) (y0 : Int32) (H : Heap) (locs : List Loc) (ls : Array Slot), X7_atom_J84 A τ y0 = some (r, τ') → IT D cI cZ o s H locs τ → lv_has ls 4 [(0, .ref o)] → W p l e ({ frames := (fr + 60), cells := 0, slots := 0, locals := (lo + 1800) } : Room) s m args below meth c H locs 0 0 Q (F0 m 84 ls [.int y0]) := by
    intro τ y0 H locs ls hf hI hl
    unfold X7_atom_J84 at hf
    refine lv_istore_n (lv' := [(3, .int y0), (0, .ref o)]) hx hb dX7_atom_84 rfl hl (by decide) rfl (fun ls hl => ?_)
    refine lv_goto (tgt := 138) hx hb dX7_atom_85 (by decide) ?_
    exact hJ138 τ y0 H locs ls hf hI  (lv_sub hl [1, 0] rfl)
  have hJ40 : ∀ (τ : Mm) (x1 : Int32) (x2 : Int32) (H : Heap) (locs : List Loc) (ls : Array Slot), X7_atom_J40 A τ x1 x2 = some (r, τ') → IT D cI cZ o s H locs τ → lv_has ls 4 [(0, .ref o), (1, .int x1), (2, .int x2)] → W p l e ({ frames := (fr + 60), cells := 0, slots := 0, locals := (lo + 1800) } : Room) s m args below meth c H locs 0 0 Q (F0 m 40 ls []) := by
    intro τ x1 x2 H locs ls hf hI hl
    unfold X7_atom_J40 at hf
    refine lv_aload_n hx hb dX7_atom_40 rfl (lv_at hl 0 rfl) ?_
    refine tget hx hb hts hown hE hI 13 (by decide) q2113 rfl dX7_atom_41 ?_
    refine lv_bipush (v := (6 : Int32)) hx hb dX7_atom_44 (by decide) ?_
    refine lv_icmp_ne (tgt := 56) hx hb dX7_atom_46 (by decide) (fun hc => ?_) (fun hc => ?_)
    · replace hf := ineg hc hf
      refine lv_aload_n hx hb dX7_atom_56 rfl (lv_at hl 0 rfl) ?_
      refine lv_dup hx hb dX7_atom_57 rfl ?_
      refine tget hx hb hts hown hE hI 13 (by decide) q2113 rfl dX7_atom_58 ?_
      refine lv_iconst (v := (1 : Int32)) hx hb dX7_atom_61 (by decide) ?_
      refine lv_iadd hx hb dX7_atom_62 ?_
      obtain ⟨t63, et63, hf⟩ := obd hf
      refine tput hx hb hts hown hE hI 13 (by decide) q2113 rfl (tyX7_ok 13 (by decide)) rfl rfl rfl et63 dX7_atom_63 (fun H locs hI => ?_)
      refine lv_iconst (v := (0 : Int32)) hx hb dX7_atom_66 (by decide) ?_
      refine lv_istore_n (lv' := [(3, .int (0 : Int32)), (0, .ref o), (1, .int x1), (2, .int x2)]) hx hb dX7_atom_67 rfl hl (by decide) rfl (fun ls hl => ?_)
      refine lv_iload_n hx hb dX7_atom_68 rfl (lv_at hl 3 rfl) ?_
      refine lv_if_eq (tgt := 88) hx hb dX7_atom_69 (by decide) (fun hc => ?_) (fun hc => ?_)
      · replace hf := ipos hc hf
        refine lv_aload_n hx hb dX7_atom_88 rfl (lv_at hl 1 rfl) ?_
        refine lv_dup hx hb dX7_atom_89 rfl ?_
        refine tget hx hb hts hown hE hI 11 (by decide) q2111 rfl dX7_atom_90 ?_
        refine lv_iconst (v := (1 : Int32)) hx hb dX7_atom_93 (by decide) ?_
        refine lv_iadd hx hb dX7_atom_94 ?_
        obtain ⟨t95, et95, hf⟩ := obd hf
        refine tput hx hb hts hown hE hI 11 (by decide) q2111 rfl (tyX7_ok 11 (by decide)) rfl rfl rfl et95 dX7_atom_95 (fun H locs hI => ?_)
        refine lv_aload_n hx hb dX7_atom_98 rfl (lv_at hl 1 rfl) ?_
        obtain ⟨x99, ex99, hf⟩ := obd hf
        refine tcallI (rest := []) hx hb hts hown hE hz hI hml hl.1 (mX7_some A fr lo hA t95 _ _ ex99) (cwX7_some hts ⟨(by show _ ≤ _; simp only []; omega), (by show _ ≤ _; simp only []; omega)⟩) ⟨Nat.le_of_ble_eq_true rfl, Nat.le_of_ble_eq_true rfl⟩ rfl rfl (lv_room (Nat.le_of_ble_eq_true rfl)) dX7_atom_99 (fun H locs hI => ?_)
        refine lv_istore_n (lv' := [(3, .int x99.1), (0, .ref o), (1, .int x1), (2, .int x2)]) hx hb dX7_atom_102 rfl hl (by decide) rfl (fun ls hl => ?_)
        refine lv_aload_n hx hb dX7_atom_103 rfl (lv_at hl 1 rfl) ?_
        refine tget hx hb hts hown hE hI 12 (by decide) q2112 rfl dX7_atom_104 ?_
        refine lv_iconst (v := (-1 : Int32)) hx hb dX7_atom_107 (by decide) ?_
        refine lv_icmp_ne (tgt := 128) hx hb dX7_atom_108 (by decide) (fun hc => ?_) (fun hc => ?_)
        · replace hf := ineg hc hf
          exact hJ128 x99.2 x99.1 H locs ls hf hI  (lv_sub hl [1, 0] rfl)
        · replace hf := ipos hc hf
          refine lv_aload_n hx hb dX7_atom_111 rfl (lv_at hl 1 rfl) ?_
          refine lv_bipush (v := (41 : Int32)) hx hb dX7_atom_112 (by decide) ?_
          obtain ⟨x114, ex114, hf⟩ := obd hf
          refine tcallI (rest := []) hx hb hts hown hE hz hI hml hl.1 (mX7_isSign x99.2 (41 : Int32) _ _ ex114) (cwX7_isSign hts ⟨(by show _ ≤ _; simp only []; omega), (by show _ ≤ _; simp only []; omega)⟩) ⟨Nat.le_of_ble_eq_true rfl, Nat.le_of_ble_eq_true rfl⟩ rfl rfl (lv_room (Nat.le_of_ble_eq_true rfl)) dX7_atom_114 (fun H locs hI => ?_)
          refine lv_if_ne (tgt := 128) hx hb dX7_atom_117 (by decide) (fun hc => ?_) (fun hc => ?_)
          · replace hf := ineg hc hf
            exact hJ128 x114.2 x99.1 H locs ls hf hI  (lv_sub hl [1, 0] rfl)
          · replace hf := ipos hc hf
            refine lv_aload_n hx hb dX7_atom_120 rfl (lv_at hl 1 rfl) ?_
            refine lv_aload_n hx hb dX7_atom_121 rfl (lv_at hl 1 rfl) ?_
            refine tget hx hb hts hown hE hI 11 (by decide) q2111 rfl dX7_atom_122 ?_
            obtain ⟨t125, et125, hf⟩ := obd hf
            refine tcallV (rest := []) hx hb hts hown hE hz hI hml hl.1 (mX7_wrong x114.2 (x114.2 10 11) _ et125) (cwX7_wrong hts ⟨(by show _ ≤ _; simp only []; omega), (by show _ ≤ _; simp only []; omega)⟩) ⟨Nat.le_of_ble_eq_true rfl, Nat.le_of_ble_eq_true rfl⟩ rfl rfl (lv_room (Nat.le_of_ble_eq_true rfl)) dX7_atom_125 (fun H locs hI => ?_)
            exact hJ128 t125 x99.1 H locs ls hf hI  (lv_sub hl [1, 0] rfl)
      · replace hf := ineg hc hf
        refine lv_aload_n hx hb dX7_atom_72 rfl (lv_at hl 1 rfl) ?_
        obtain ⟨x73, ex73, hf⟩ := obd hf
        refine tcallI (rest := []) hx hb hts hown hE hz hI hml hl.1 (hA t63 _ _ ex73) (cwX7_atom hts ⟨(by show _ ≤ _; simp only []; omega), (by show _ ≤ _; simp only []; omega)⟩) ⟨Nat.le_of_ble_eq_true rfl, Nat.le_of_ble_eq_true rfl⟩ rfl rfl (lv_room (Nat.le_of_ble_eq_true rfl)) dX7_atom_73 (fun H locs hI => ?_)
        refine lv_if_ne (tgt := 83) hx hb dX7_atom_76 (by decide) (fun hc => ?_) (fun hc => ?_)
        · replace hf := ineg hc hf
          refine lv_iconst (v := (0 : Int32)) hx hb dX7_atom_83 (by decide) ?_
          exact hJ84 x73.2 (0 : Int32) H locs ls hf hI  (lv_sub hl [1] rfl)
        · replace hf := ipos hc hf
          refine lv_iconst (v := (1 : Int32)) hx hb dX7_atom_79 (by decide) ?_
          refine lv_goto (tgt := 84) hx hb dX7_atom_80 (by decide) ?_
          exact hJ84 x73.2 (1 : Int32) H locs ls hf hI  (lv_sub hl [1] rfl)
    · replace hf := ipos hc hf
      refine lv_aload_n hx hb dX7_atom_49 rfl (lv_at hl 0 rfl) ?_
      refine lv_iload_n hx hb dX7_atom_50 rfl (lv_at hl 1 rfl) ?_
      obtain ⟨t51, et51, hf⟩ := obd hf
      refine tcallV (rest := []) hx hb hts hown hE hz hI hml hl.1 (mX7_wrong τ x1 _ et51) (cwX7_wrong hts ⟨(by show _ ≤ _; simp only []; omega), (by show _ ≤ _; simp only []; omega)⟩) ⟨Nat.le_of_ble_eq_true rfl, Nat.le_of_ble_eq_true rfl⟩ rfl rfl (lv_room (Nat.le_of_ble_eq_true rfl)) dX7_atom_51 (fun H locs hI => ?_)
      refine lv_iconst (v := (0 : Int32)) hx hb dX7_atom_54 (by decide) ?_
      have hf := Prod.mk.inj (Option.some.inj hf)
      rw [hf.1]
      exact hret H locs 55 ls (hf.2 ▸ hI) (hf.1 ▸ (by decide)) dX7_atom_55
  refine lv_aload_n hx hb dX7_atom_0 rfl (lv_at hl 0 rfl) ?_
  refine tget hx hb hts hown hE hI 12 (by decide) q2112 rfl dX7_atom_1 ?_
  refine lv_iconst (v := (-1 : Int32)) hx hb dX7_atom_4 (by decide) ?_
  refine lv_icmp_eq (tgt := 10) hx hb dX7_atom_5 (by decide) (fun hc => ?_) (fun hc => ?_)
  · replace hf := ipos hc hf
    refine lv_aload_n hx hb dX7_atom_10 rfl (lv_at hl 0 rfl) ?_
    obtain ⟨x11, ex11, hf⟩ := obd hf
    refine tcallI (rest := []) hx hb hts hown hE hz hI hml hl.1 (mX7_here τ _ _ ex11) (cwX7_here hts ⟨(by show _ ≤ _; simp only []; omega), (by show _ ≤ _; simp only []; omega)⟩) ⟨Nat.le_of_ble_eq_true rfl, Nat.le_of_ble_eq_true rfl⟩ rfl rfl (lv_room (Nat.le_of_ble_eq_true rfl)) dX7_atom_11 (fun H locs hI => ?_)
    refine lv_istore_n (lv' := [(1, .int x11.1), (0, .ref o)]) hx hb dX7_atom_14 rfl hl (by decide) rfl (fun ls hl => ?_)
    refine lv_aload_n hx hb dX7_atom_15 rfl (lv_at hl 1 rfl) ?_
    refine va_ldcS hx hb hown (hE.2.at 32 rfl) dX7_atom_16 ?_
    obtain ⟨x18, ex18, hf⟩ := obd hf
    refine tcallI (rest := []) hx hb hts hown hE hz hI hml hl.1 (mX7_has x11.2 23 (by decide) _ _ ex18) (cwX7_has hts ⟨(by show _ ≤ _; simp only []; omega), (by show _ ≤ _; simp only []; omega)⟩) ⟨Nat.le_of_ble_eq_true rfl, Nat.le_of_ble_eq_true rfl⟩ rfl rfl (lv_room (Nat.le_of_ble_eq_true rfl)) dX7_atom_18 (fun H locs hI => ?_)
    refine lv_istore_n (lv' := [(2, .int x18.1), (1, .int x11.1), (0, .ref o)]) hx hb dX7_atom_21 rfl hl (by decide) rfl (fun ls hl => ?_)
    refine lv_iload_n hx hb dX7_atom_22 rfl (lv_at hl 0 rfl) ?_
    refine lv_if_ne (tgt := 40) hx hb dX7_atom_23 (by decide) (fun hc => ?_) (fun hc => ?_)
    · replace hf := ineg hc hf
      exact hJ40 x18.2 x11.1 x18.1 H locs ls hf hI  (lv_sub hl [2, 1, 0] rfl)
    · replace hf := ipos hc hf
      refine lv_aload_n hx hb dX7_atom_26 rfl (lv_at hl 2 rfl) ?_
      refine lv_bipush (v := (40 : Int32)) hx hb dX7_atom_27 (by decide) ?_
      obtain ⟨x29, ex29, hf⟩ := obd hf
      refine tcallI (rest := []) hx hb hts hown hE hz hI hml hl.1 (mX7_isSign x18.2 (40 : Int32) _ _ ex29) (cwX7_isSign hts ⟨(by show _ ≤ _; simp only []; omega), (by show _ ≤ _; simp only []; omega)⟩) ⟨Nat.le_of_ble_eq_true rfl, Nat.le_of_ble_eq_true rfl⟩ rfl rfl (lv_room (Nat.le_of_ble_eq_true rfl)) dX7_atom_29 (fun H locs hI => ?_)
      refine lv_if_ne (tgt := 40) hx hb dX7_atom_32 (by decide) (fun hc => ?_) (fun hc => ?_)
      · replace hf := ineg hc hf
        exact hJ40 x29.2 x11.1 x18.1 H locs ls hf hI  (lv_sub hl [2, 1, 0] rfl)
      · replace hf := ipos hc hf
        refine lv_aload_n hx hb dX7_atom_35 rfl (lv_at hl 2 rfl) ?_
        obtain ⟨x36, ex36, hf⟩ := obd hf
        refine tcallI (rest := []) hx hb hts hown hE hz hI hml hl.1 (mX7_plain x29.2 _ _ ex36) (cwX7_plain hts ⟨(by show _ ≤ _; simp only []; omega), (by show _ ≤ _; simp only []; omega)⟩) ⟨Nat.le_of_ble_eq_true rfl, Nat.le_of_ble_eq_true rfl⟩ rfl rfl (lv_room (Nat.le_of_ble_eq_true rfl)) dX7_atom_36 (fun H locs hI => ?_)
        obtain ⟨_, eb39, hf⟩ := obd hf
        have hf := Prod.mk.inj (Option.some.inj hf)
        rw [hf.1]
        exact hret H locs 39 ls (hf.2 ▸ hI) (hf.1 ▸ (zb_e eb39).2) dX7_atom_39
  · replace hf := ineg hc hf
    refine lv_iconst (v := (0 : Int32)) hx hb dX7_atom_8 (by decide) ?_
    have hf := Prod.mk.inj (Option.some.inj hf)
    rw [hf.1]
    exact hret H locs 9 ls (hf.2 ▸ hI) (hf.1 ▸ (by decide)) dX7_atom_9
def X7_atom : Nat → Mm → Option (Int32 × Mm)
  | 0, _ => none
  | n + 1, τ => X7_atomB (X7_atom n) τ
theorem mX7_atom : ∀ (n : Nat) (τ : Mm) (r : Int32) (τ' : Mm), X7_atom n τ = some (r, τ') → TMi yX7_atom cX7_atom 4 (some .boolean) (100 + 60 * n) (2000 + 1800 * n) (fun _ => []) r τ τ' := by
  intro n
  induction n with
  | zero => intro τ r τ' h; cases h
  | succ n ih =>
    intro τ r τ' h
    rw [show 100 + 60 * (n + 1) = 100 + 60 * n + 60 by omega, show 2000 + 1800 * (n + 1) = 2000 + 1800 * n + 1800 by omega]
    exact mX7_atomB (X7_atom n) (100 + 60 * n) (2000 + 1800 * n) ih τ r τ' h

def X7_lawLine_J133 (τ : Mm) (x1 : Int32) (x2 : Int32) (y0 : Int32) (y1 : Int32) : Option (Mm) :=
  (some (mup τ 10 17 (y1 + y0))).bind fun t134 =>
  if x1 = (2 : Int32) then
    (some (mup t134 10 18 ((t134 10 18) + x2))).bind fun t153_3 =>
    some t153_3
  else
    (some (mup t134 10 18 ((t134 10 18) + (0 : Int32)))).bind fun t153 =>
    some t153
def X7_lawLine_J95 (τ : Mm) (x1 : Int32) (x2 : Int32) (y0 : Int32) : Option (Mm) :=
  if (τ 10 12) = (-1 : Int32) then
    if y0 = (0 : Int32) then
      some τ
    else
      if x1 = (0 : Int32) then
        X7_lawLine_J133 τ x1 x2 x2 (τ 10 17)
      else
        if x1 = (1 : Int32) then
          X7_lawLine_J133 τ x1 x2 (-x2) (τ 10 17)
        else
          X7_lawLine_J133 τ x1 x2 (0 : Int32) (τ 10 17)
  else
    some τ
def X7_lawLine_J90 (τ : Mm) (x1 : Int32) (x2 : Int32) : Option (Mm) :=
  X7_lawLine_J95 τ x1 x2 (1 : Int32)
def X7_lawLine_J41 (τ : Mm) (y0 : Int32) : Option (Mm) :=
  if y0 = (-1 : Int32) then
    (X7_wrong τ (τ 10 11)).bind fun t52 =>
    some t52
  else
    (X7_figures τ (0 : Int32) (40 : Int32)).bind fun x60 =>
    if (x60.2 10 12) = (-1 : Int32) then
      (X7_has x60.2 22).bind fun x77 =>
      if x77.1 = (0 : Int32) then
        X7_lawLine_J90 x77.2 y0 x60.1
      else
        (X7_some (X7_atom 9) x77.2).bind fun x84 =>
        if x84.1 = (0 : Int32) then
          X7_lawLine_J95 x84.2 y0 x60.1 (0 : Int32)
        else
          X7_lawLine_J90 x84.2 y0 x60.1
    else
      some x60.2
def X7_lawLine (τ : Mm) : Option (Mm) :=
  (X7_has τ 28).bind fun x3 =>
  if x3.1 = (0 : Int32) then
    (X7_has x3.2 29).bind fun x16 =>
    if x16.1 = (0 : Int32) then
      (X7_has x16.2 30).bind fun x30 =>
      if x30.1 = (0 : Int32) then
        X7_lawLine_J41 x30.2 (-1 : Int32)
      else
        X7_lawLine_J41 x30.2 (2 : Int32)
    else
      X7_lawLine_J41 x16.2 (1 : Int32)
  else
    X7_lawLine_J41 x3.2 (0 : Int32)
set_option maxHeartbeats 4000000 in
theorem mX7_lawLine (τ : Mm) (τ' : Mm) (hf : X7_lawLine τ = some τ') : TMv yX7_lawLine cX7_lawLine 4 none 690 20000 (fun aK => []) τ τ' := by
  refine TMv.of (by decide) rfl (fun _ _ => Nat.le_of_ble_eq_true rfl) ?_
  intro p l e s m args below meth c D cI cZ o z aK aV Q ls hz hx hb hml hown hts hE hret hI hl
  obtain ⟨H, eH⟩ : ∃ H, H = s.heap := ⟨_, rfl⟩
  obtain ⟨locs, eL⟩ : ∃ L : List Loc, L = [] := ⟨_, rfl⟩
  rw [← eH, ← eL] at hI ⊢
  have hl : lv_has ls 4 [(0, .ref o)] := hl
  unfold X7_lawLine at hf
  have hJ133 : ∀ (τ : Mm) (x1 : Int32) (x2 : Int32) (y0 : Int32) (y1 : Int32) (H : Heap) (locs : List Loc) (ls : Array Slot), X7_lawLine_J133 τ x1 x2 y0 y1 = some τ' → IT D cI cZ o s H locs τ → lv_has ls 4 [(0, .ref o), (1, .int x1), (2, .int x2)] → W p l e ({ frames := 690, cells := 0, slots := 0, locals := 20000 } : Room) s m args below meth c H locs 0 0 Q (F0 m 133 ls [.int y0, .int y1, .ref o]) := by
    intro τ x1 x2 y0 y1 H locs ls hf hI hl
    unfold X7_lawLine_J133 at hf
    refine lv_iadd hx hb dX7_lawLine_133 ?_
    obtain ⟨t134, et134, hf⟩ := obd hf
    refine tput hx hb hts hown hE hI 17 (by decide) q2117 rfl (tyX7_ok 17 (by decide)) rfl rfl rfl et134 dX7_lawLine_134 (fun H locs hI => ?_)
    refine lv_aload_n hx hb dX7_lawLine_137 rfl (lv_at hl 0 rfl) ?_
    refine lv_dup hx hb dX7_lawLine_138 rfl ?_
    refine tget hx hb hts hown hE hI 18 (by decide) q2118 rfl dX7_lawLine_139 ?_
    refine lv_iload_n hx hb dX7_lawLine_142 rfl (lv_at hl 1 rfl) ?_
    refine lv_iconst (v := (2 : Int32)) hx hb dX7_lawLine_143 (by decide) ?_
    refine lv_icmp_ne (tgt := 151) hx hb dX7_lawLine_144 (by decide) (fun hc => ?_) (fun hc => ?_)
    · replace hf := ineg hc hf
      refine lv_iconst (v := (0 : Int32)) hx hb dX7_lawLine_151 (by decide) ?_
      refine lv_iadd hx hb dX7_lawLine_152 ?_
      obtain ⟨t153, et153, hf⟩ := obd hf
      refine tput hx hb hts hown hE hI 18 (by decide) q2118 rfl (tyX7_ok 18 (by decide)) rfl rfl rfl et153 dX7_lawLine_153 (fun H locs hI => ?_)
      exact hret H locs 156 ls ((Option.some.inj hf) ▸ hI) dX7_lawLine_156
    · replace hf := ipos hc hf
      refine lv_iload_n hx hb dX7_lawLine_147 rfl (lv_at hl 2 rfl) ?_
      refine lv_goto (tgt := 152) hx hb dX7_lawLine_148 (by decide) ?_
      refine lv_iadd hx hb dX7_lawLine_152 ?_
      obtain ⟨t153_3, et153_3, hf⟩ := obd hf
      refine tput hx hb hts hown hE hI 18 (by decide) q2118 rfl (tyX7_ok 18 (by decide)) rfl rfl rfl et153_3 dX7_lawLine_153 (fun H locs hI => ?_)
      exact hret H locs 156 ls ((Option.some.inj hf) ▸ hI) dX7_lawLine_156
  have hJ95 : ∀ (τ : Mm) (x1 : Int32) (x2 : Int32) (y0 : Int32) (H : Heap) (locs : List Loc) (ls : Array Slot), X7_lawLine_J95 τ x1 x2 y0 = some τ' → IT D cI cZ o s H locs τ → lv_has ls 4 [(0, .ref o), (1, .int x1), (2, .int x2)] → W p l e ({ frames := 690, cells := 0, slots := 0, locals := 20000 } : Room) s m args below meth c H locs 0 0 Q (F0 m 95 ls [.int y0]) := by
    intro τ x1 x2 y0 H locs ls hf hI hl
    unfold X7_lawLine_J95 at hf
    refine lv_istore_n (lv' := [(3, .int y0), (0, .ref o), (1, .int x1), (2, .int x2)]) hx hb dX7_lawLine_95 rfl hl (by decide) rfl (fun ls hl => ?_)
    refine lv_aload_n hx hb dX7_lawLine_96 rfl (lv_at hl 1 rfl) ?_
    refine tget hx hb hts hown hE hI 12 (by decide) q2112 rfl dX7_lawLine_97 ?_
    refine lv_iconst (v := (-1 : Int32)) hx hb dX7_lawLine_100 (by decide) ?_
    refine lv_icmp_ne (tgt := 108) hx hb dX7_lawLine_101 (by decide) (fun hc => ?_) (fun hc => ?_)
    · replace hf := ineg hc hf
      exact hret H locs 108 ls ((Option.some.inj hf) ▸ hI) dX7_lawLine_108
    · replace hf := ipos hc hf
      refine lv_iload_n hx hb dX7_lawLine_104 rfl (lv_at hl 0 rfl) ?_
      refine lv_if_ne (tgt := 109) hx hb dX7_lawLine_105 (by decide) (fun hc => ?_) (fun hc => ?_)
      · replace hf := ineg hc hf
        refine lv_aload_n hx hb dX7_lawLine_109 rfl (lv_at hl 1 rfl) ?_
        refine lv_dup hx hb dX7_lawLine_110 rfl ?_
        refine tget hx hb hts hown hE hI 17 (by decide) q2117 rfl dX7_lawLine_111 ?_
        refine lv_iload_n hx hb dX7_lawLine_114 rfl (lv_at hl 2 rfl) ?_
        refine lv_if_ne (tgt := 122) hx hb dX7_lawLine_115 (by decide) (fun hc => ?_) (fun hc => ?_)
        · replace hf := ineg hc hf
          refine lv_iload_n hx hb dX7_lawLine_122 rfl (lv_at hl 2 rfl) ?_
          refine lv_iconst (v := (1 : Int32)) hx hb dX7_lawLine_123 (by decide) ?_
          refine lv_icmp_ne (tgt := 132) hx hb dX7_lawLine_124 (by decide) (fun hc => ?_) (fun hc => ?_)
          · replace hf := ineg hc hf
            refine lv_iconst (v := (0 : Int32)) hx hb dX7_lawLine_132 (by decide) ?_
            exact hJ133 τ x1 x2 (0 : Int32) (τ 10 17) H locs ls hf hI  (lv_sub hl [1, 2, 3] rfl)
          · replace hf := ipos hc hf
            refine lv_iload_n hx hb dX7_lawLine_127 rfl (lv_at hl 3 rfl) ?_
            refine lv_ineg hx hb dX7_lawLine_128 ?_
            refine lv_goto (tgt := 133) hx hb dX7_lawLine_129 (by decide) ?_
            exact hJ133 τ x1 x2 (-x2) (τ 10 17) H locs ls hf hI  (lv_sub hl [1, 2, 3] rfl)
        · replace hf := ipos hc hf
          refine lv_iload_n hx hb dX7_lawLine_118 rfl (lv_at hl 3 rfl) ?_
          refine lv_goto (tgt := 133) hx hb dX7_lawLine_119 (by decide) ?_
          exact hJ133 τ x1 x2 x2 (τ 10 17) H locs ls hf hI  (lv_sub hl [1, 2, 3] rfl)
      · replace hf := ipos hc hf
        exact hret H locs 108 ls ((Option.some.inj hf) ▸ hI) dX7_lawLine_108
  have hJ90 : ∀ (τ : Mm) (x1 : Int32) (x2 : Int32) (H : Heap) (locs : List Loc) (ls : Array Slot), X7_lawLine_J90 τ x1 x2 = some τ' → IT D cI cZ o s H locs τ → lv_has ls 4 [(0, .ref o), (1, .int x1), (2, .int x2)] → W p l e ({ frames := 690, cells := 0, slots := 0, locals := 20000 } : Room) s m args below meth c H locs 0 0 Q (F0 m 90 ls []) := by
    intro τ x1 x2 H locs ls hf hI hl
    unfold X7_lawLine_J90 at hf
    refine lv_iconst (v := (1 : Int32)) hx hb dX7_lawLine_90 (by decide) ?_
    refine lv_goto (tgt := 95) hx hb dX7_lawLine_91 (by decide) ?_
    exact hJ95 τ x1 x2 (1 : Int32) H locs ls hf hI  (lv_sub hl [0, 1, 2] rfl)
  have hJ41 : ∀ (τ : Mm) (y0 : Int32) (H : Heap) (locs : List Loc) (ls : Array Slot), X7_lawLine_J41 τ y0 = some τ' → IT D cI cZ o s H locs τ → lv_has ls 4 [(0, .ref o)] → W p l e ({ frames := 690, cells := 0, slots := 0, locals := 20000 } : Room) s m args below meth c H locs 0 0 Q (F0 m 41 ls [.int y0]) := by
    intro τ y0 H locs ls hf hI hl
    unfold X7_lawLine_J41 at hf
    refine lv_istore_n (lv' := [(1, .int y0), (0, .ref o)]) hx hb dX7_lawLine_41 rfl hl (by decide) rfl (fun ls hl => ?_)
    refine lv_iload_n hx hb dX7_lawLine_42 rfl (lv_at hl 0 rfl) ?_
    refine lv_iconst (v := (-1 : Int32)) hx hb dX7_lawLine_43 (by decide) ?_
    refine lv_icmp_ne (tgt := 56) hx hb dX7_lawLine_44 (by decide) (fun hc => ?_) (fun hc => ?_)
    · replace hf := ineg hc hf
      refine lv_aload_n hx hb dX7_lawLine_56 rfl (lv_at hl 1 rfl) ?_
      refine lv_iconst (v := (0 : Int32)) hx hb dX7_lawLine_57 (by decide) ?_
      refine lv_bipush (v := (40 : Int32)) hx hb dX7_lawLine_58 (by decide) ?_
      obtain ⟨x60, ex60, hf⟩ := obd hf
      refine tcallI (rest := []) hx hb hts hown hE hz hI hml hl.1 (mX7_figures τ (0 : Int32) (40 : Int32) _ _ ex60) (cwX7_figures hts ⟨Nat.le_of_ble_eq_true rfl, Nat.le_of_ble_eq_true rfl⟩) ⟨Nat.le_of_ble_eq_true rfl, Nat.le_of_ble_eq_true rfl⟩ rfl rfl (lv_room (Nat.le_of_ble_eq_true rfl)) dX7_lawLine_60 (fun H locs hI => ?_)
      refine lv_istore_n (lv' := [(2, .int x60.1), (1, .int y0), (0, .ref o)]) hx hb dX7_lawLine_63 rfl hl (by decide) rfl (fun ls hl => ?_)
      refine lv_aload_n hx hb dX7_lawLine_64 rfl (lv_at hl 2 rfl) ?_
      refine tget hx hb hts hown hE hI 12 (by decide) q2112 rfl dX7_lawLine_65 ?_
      refine lv_iconst (v := (-1 : Int32)) hx hb dX7_lawLine_68 (by decide) ?_
      refine lv_icmp_eq (tgt := 73) hx hb dX7_lawLine_69 (by decide) (fun hc => ?_) (fun hc => ?_)
      · replace hf := ipos hc hf
        refine lv_aload_n hx hb dX7_lawLine_73 rfl (lv_at hl 2 rfl) ?_
        refine va_ldcSw hx hb hown (hE.2.at 31 rfl) dX7_lawLine_74 ?_
        obtain ⟨x77, ex77, hf⟩ := obd hf
        refine tcallI (rest := []) hx hb hts hown hE hz hI hml hl.1 (mX7_has x60.2 22 (by decide) _ _ ex77) (cwX7_has hts ⟨Nat.le_of_ble_eq_true rfl, Nat.le_of_ble_eq_true rfl⟩) ⟨Nat.le_of_ble_eq_true rfl, Nat.le_of_ble_eq_true rfl⟩ rfl rfl (lv_room (Nat.le_of_ble_eq_true rfl)) dX7_lawLine_77 (fun H locs hI => ?_)
        refine lv_if_eq (tgt := 90) hx hb dX7_lawLine_80 (by decide) (fun hc => ?_) (fun hc => ?_)
        · replace hf := ipos hc hf
          exact hJ90 x77.2 y0 x60.1 H locs ls hf hI  (lv_sub hl [2, 1, 0] rfl)
        · replace hf := ineg hc hf
          refine lv_aload_n hx hb dX7_lawLine_83 rfl (lv_at hl 2 rfl) ?_
          obtain ⟨x84, ex84, hf⟩ := obd hf
          refine tcallI (rest := []) hx hb hts hown hE hz hI hml hl.1 (mX7_some (X7_atom 9) 640 18200 (mX7_atom 9) x77.2 _ _ ex84) (cwX7_some hts ⟨Nat.le_of_ble_eq_true rfl, Nat.le_of_ble_eq_true rfl⟩) ⟨Nat.le_of_ble_eq_true rfl, Nat.le_of_ble_eq_true rfl⟩ rfl rfl (lv_room (Nat.le_of_ble_eq_true rfl)) dX7_lawLine_84 (fun H locs hI => ?_)
          refine lv_if_eq (tgt := 94) hx hb dX7_lawLine_87 (by decide) (fun hc => ?_) (fun hc => ?_)
          · replace hf := ipos hc hf
            refine lv_iconst (v := (0 : Int32)) hx hb dX7_lawLine_94 (by decide) ?_
            exact hJ95 x84.2 y0 x60.1 (0 : Int32) H locs ls hf hI  (lv_sub hl [2, 1, 0] rfl)
          · replace hf := ineg hc hf
            exact hJ90 x84.2 y0 x60.1 H locs ls hf hI  (lv_sub hl [2, 1, 0] rfl)
      · replace hf := ineg hc hf
        exact hret H locs 72 ls ((Option.some.inj hf) ▸ hI) dX7_lawLine_72
    · replace hf := ipos hc hf
      refine lv_aload_n hx hb dX7_lawLine_47 rfl (lv_at hl 1 rfl) ?_
      refine lv_aload_n hx hb dX7_lawLine_48 rfl (lv_at hl 1 rfl) ?_
      refine tget hx hb hts hown hE hI 11 (by decide) q2111 rfl dX7_lawLine_49 ?_
      obtain ⟨t52, et52, hf⟩ := obd hf
      refine tcallV (rest := []) hx hb hts hown hE hz hI hml hl.1 (mX7_wrong τ (τ 10 11) _ et52) (cwX7_wrong hts ⟨Nat.le_of_ble_eq_true rfl, Nat.le_of_ble_eq_true rfl⟩) ⟨Nat.le_of_ble_eq_true rfl, Nat.le_of_ble_eq_true rfl⟩ rfl rfl (lv_room (Nat.le_of_ble_eq_true rfl)) dX7_lawLine_52 (fun H locs hI => ?_)
      exact hret H locs 55 ls ((Option.some.inj hf) ▸ hI) dX7_lawLine_55
  refine lv_aload_n hx hb dX7_lawLine_0 rfl (lv_at hl 0 rfl) ?_
  refine va_ldcS hx hb hown (hE.2.at 28 rfl) dX7_lawLine_1 ?_
  obtain ⟨x3, ex3, hf⟩ := obd hf
  refine tcallI (rest := []) hx hb hts hown hE hz hI hml hl.1 (mX7_has τ 28 (by decide) _ _ ex3) (cwX7_has hts ⟨Nat.le_of_ble_eq_true rfl, Nat.le_of_ble_eq_true rfl⟩) ⟨Nat.le_of_ble_eq_true rfl, Nat.le_of_ble_eq_true rfl⟩ rfl rfl (lv_room (Nat.le_of_ble_eq_true rfl)) dX7_lawLine_3 (fun H locs hI => ?_)
  refine lv_if_eq (tgt := 13) hx hb dX7_lawLine_6 (by decide) (fun hc => ?_) (fun hc => ?_)
  · replace hf := ipos hc hf
    refine lv_aload_n hx hb dX7_lawLine_13 rfl (lv_at hl 0 rfl) ?_
    refine va_ldcS hx hb hown (hE.2.at 29 rfl) dX7_lawLine_14 ?_
    obtain ⟨x16, ex16, hf⟩ := obd hf
    refine tcallI (rest := []) hx hb hts hown hE hz hI hml hl.1 (mX7_has x3.2 29 (by decide) _ _ ex16) (cwX7_has hts ⟨Nat.le_of_ble_eq_true rfl, Nat.le_of_ble_eq_true rfl⟩) ⟨Nat.le_of_ble_eq_true rfl, Nat.le_of_ble_eq_true rfl⟩ rfl rfl (lv_room (Nat.le_of_ble_eq_true rfl)) dX7_lawLine_16 (fun H locs hI => ?_)
    refine lv_if_eq (tgt := 26) hx hb dX7_lawLine_19 (by decide) (fun hc => ?_) (fun hc => ?_)
    · replace hf := ipos hc hf
      refine lv_aload_n hx hb dX7_lawLine_26 rfl (lv_at hl 0 rfl) ?_
      refine va_ldcSw hx hb hown (hE.2.at 30 rfl) dX7_lawLine_27 ?_
      obtain ⟨x30, ex30, hf⟩ := obd hf
      refine tcallI (rest := []) hx hb hts hown hE hz hI hml hl.1 (mX7_has x16.2 30 (by decide) _ _ ex30) (cwX7_has hts ⟨Nat.le_of_ble_eq_true rfl, Nat.le_of_ble_eq_true rfl⟩) ⟨Nat.le_of_ble_eq_true rfl, Nat.le_of_ble_eq_true rfl⟩ rfl rfl (lv_room (Nat.le_of_ble_eq_true rfl)) dX7_lawLine_30 (fun H locs hI => ?_)
      refine lv_if_eq (tgt := 40) hx hb dX7_lawLine_33 (by decide) (fun hc => ?_) (fun hc => ?_)
      · replace hf := ipos hc hf
        refine lv_iconst (v := (-1 : Int32)) hx hb dX7_lawLine_40 (by decide) ?_
        exact hJ41 x30.2 (-1 : Int32) H locs ls hf hI  (lv_sub hl [0] rfl)
      · replace hf := ineg hc hf
        refine lv_iconst (v := (2 : Int32)) hx hb dX7_lawLine_36 (by decide) ?_
        refine lv_goto (tgt := 41) hx hb dX7_lawLine_37 (by decide) ?_
        exact hJ41 x30.2 (2 : Int32) H locs ls hf hI  (lv_sub hl [0] rfl)
    · replace hf := ineg hc hf
      refine lv_iconst (v := (1 : Int32)) hx hb dX7_lawLine_22 (by decide) ?_
      refine lv_goto (tgt := 41) hx hb dX7_lawLine_23 (by decide) ?_
      exact hJ41 x16.2 (1 : Int32) H locs ls hf hI  (lv_sub hl [0] rfl)
  · replace hf := ineg hc hf
    refine lv_iconst (v := (0 : Int32)) hx hb dX7_lawLine_9 (by decide) ?_
    refine lv_goto (tgt := 41) hx hb dX7_lawLine_10 (by decide) ?_
    exact hJ41 x3.2 (0 : Int32) H locs ls hf hI  (lv_sub hl [0] rfl)
theorem cwX7_lawLine {R : Room} {s : State} {args : Array Value} {fr lo : Nat} (hts : ∀ w ∈ lw_all, w.before args s = true) (hR : fr + 1 ≤ R.frames ∧ 8 + (4 + 11) + lo ≤ R.locals) : CallW R s args RX7 RX7 189 yX7_lawLine cX7_lawLine 4 (none) (ws_ yX7_lawLine cX7_lawLine 4 (none)) ({ frames := fr, cells := 0, slots := 0, locals := lo }) 0 0 0 :=
  cwV 0 hts (lw_V q2216 q2218 qs66 q143 q2219) rfl rfl rfl (by decide +kernel) hR

def X7_partyLine_J16 (τ : Mm) : Option (Mm) :=
  (X7_figures τ (0 : Int32) (999 : Int32)).bind fun x21 =>
  if (x21.2 10 12) = (-1 : Int32) then
    (sto 781 x21.2 0 ((15 : Int32) + ((2 : Int32) * (x21.2 0 3))) x21.1).bind fun t50 =>
    (sto 781 t50 0 (((15 : Int32) + ((2 : Int32) * (t50 0 3))) + (1 : Int32)) (0 : Int32)).bind fun t69 =>
    (sto 781 t69 0 (3 : Int32) ((t69 0 3) + (1 : Int32))).bind fun t79 =>
    some t79
  else
    some x21.2
def X7_partyLine (τ : Mm) (a1 : Int32) : Option (Mm) :=
  if (τ 0 3) = (6 : Int32) then
    (X7_wrong τ a1).bind fun t13 =>
    X7_partyLine_J16 t13
  else
    X7_partyLine_J16 τ
set_option maxHeartbeats 4000000 in
theorem mX7_partyLine (τ : Mm) (a1 : Int32) (τ' : Mm) (hf : X7_partyLine τ a1 = some τ') : TMv yX7_partyLine cX7_partyLine 3 none 5 125 (fun aK => [.int a1]) τ τ' := by
  refine TMv.of (by decide) rfl (fun _ _ => Nat.le_of_ble_eq_true rfl) ?_
  intro p l e s m args below meth c D cI cZ o z aK aV Q ls hz hx hb hml hown hts hE hret hI hl
  obtain ⟨H, eH⟩ : ∃ H, H = s.heap := ⟨_, rfl⟩
  obtain ⟨locs, eL⟩ : ∃ L : List Loc, L = [] := ⟨_, rfl⟩
  rw [← eH, ← eL] at hI ⊢
  have hl : lv_has ls 3 [(0, .ref o), (1, .int a1)] := hl
  unfold X7_partyLine at hf
  have hJ16 : ∀ (τ : Mm) (H : Heap) (locs : List Loc) (ls : Array Slot), X7_partyLine_J16 τ = some τ' → IT D cI cZ o s H locs τ → lv_has ls 3 [(0, .ref o)] → W p l e ({ frames := 5, cells := 0, slots := 0, locals := 125 } : Room) s m args below meth c H locs 0 0 Q (F0 m 16 ls []) := by
    intro τ  H locs ls hf hI hl
    unfold X7_partyLine_J16 at hf
    refine lv_aload_n hx hb dX7_partyLine_16 rfl (lv_at hl 0 rfl) ?_
    refine lv_iconst (v := (0 : Int32)) hx hb dX7_partyLine_17 (by decide) ?_
    refine lv_sipush (v := (999 : Int32)) hx hb dX7_partyLine_18 (by decide) ?_
    obtain ⟨x21, ex21, hf⟩ := obd hf
    refine tcallI (rest := []) hx hb hts hown hE hz hI hml hl.1 (mX7_figures τ (0 : Int32) (999 : Int32) _ _ ex21) (cwX7_figures hts ⟨Nat.le_of_ble_eq_true rfl, Nat.le_of_ble_eq_true rfl⟩) ⟨Nat.le_of_ble_eq_true rfl, Nat.le_of_ble_eq_true rfl⟩ rfl rfl (lv_room (Nat.le_of_ble_eq_true rfl)) dX7_partyLine_21 (fun H locs hI => ?_)
    refine lv_istore_n (lv' := [(2, .int x21.1), (0, .ref o)]) hx hb dX7_partyLine_24 rfl hl (by decide) rfl (fun ls hl => ?_)
    refine lv_aload_n hx hb dX7_partyLine_25 rfl (lv_at hl 1 rfl) ?_
    refine tget hx hb hts hown hE hI 12 (by decide) q2112 rfl dX7_partyLine_26 ?_
    refine lv_iconst (v := (-1 : Int32)) hx hb dX7_partyLine_29 (by decide) ?_
    refine lv_icmp_eq (tgt := 34) hx hb dX7_partyLine_30 (by decide) (fun hc => ?_) (fun hc => ?_)
    · replace hf := ipos hc hf
      refine lv_aload_n hx hb dX7_partyLine_34 rfl (lv_at hl 1 rfl) ?_
      refine tget hx hb hts hown hE hI 1 (by decide) q2101 rfl dX7_partyLine_35 ?_
      refine lv_bipush (v := (15 : Int32)) hx hb dX7_partyLine_38 (by decide) ?_
      refine lv_iconst (v := (2 : Int32)) hx hb dX7_partyLine_40 (by decide) ?_
      refine lv_aload_n hx hb dX7_partyLine_41 rfl (lv_at hl 1 rfl) ?_
      refine tget hx hb hts hown hE hI 1 (by decide) q2101 rfl dX7_partyLine_42 ?_
      refine lv_iconst (v := (3 : Int32)) hx hb dX7_partyLine_45 (by decide) ?_
      refine taldc hx hb hE hI 1 781 3 rfl (by decide) (by decide) dX7_partyLine_46 ?_
      refine lv_imul hx hb dX7_partyLine_47 ?_
      refine lv_iadd hx hb dX7_partyLine_48 ?_
      refine lv_iload_n hx hb dX7_partyLine_49 rfl (lv_at hl 0 rfl) ?_
      obtain ⟨t50, et50, hf⟩ := obd hf
      refine tast hx hb hE hI 1 781 0 rfl (fun _ => rfl) et50 dX7_partyLine_50 (fun H locs hI => ?_)
      refine lv_aload_n hx hb dX7_partyLine_51 rfl (lv_at hl 1 rfl) ?_
      refine tget hx hb hts hown hE hI 1 (by decide) q2101 rfl dX7_partyLine_52 ?_
      refine lv_bipush (v := (15 : Int32)) hx hb dX7_partyLine_55 (by decide) ?_
      refine lv_iconst (v := (2 : Int32)) hx hb dX7_partyLine_57 (by decide) ?_
      refine lv_aload_n hx hb dX7_partyLine_58 rfl (lv_at hl 1 rfl) ?_
      refine tget hx hb hts hown hE hI 1 (by decide) q2101 rfl dX7_partyLine_59 ?_
      refine lv_iconst (v := (3 : Int32)) hx hb dX7_partyLine_62 (by decide) ?_
      refine taldc hx hb hE hI 1 781 3 rfl (by decide) (by decide) dX7_partyLine_63 ?_
      refine lv_imul hx hb dX7_partyLine_64 ?_
      refine lv_iadd hx hb dX7_partyLine_65 ?_
      refine lv_iconst (v := (1 : Int32)) hx hb dX7_partyLine_66 (by decide) ?_
      refine lv_iadd hx hb dX7_partyLine_67 ?_
      refine lv_iconst (v := (0 : Int32)) hx hb dX7_partyLine_68 (by decide) ?_
      obtain ⟨t69, et69, hf⟩ := obd hf
      refine tast hx hb hE hI 1 781 0 rfl (fun _ => rfl) et69 dX7_partyLine_69 (fun H locs hI => ?_)
      refine lv_aload_n hx hb dX7_partyLine_70 rfl (lv_at hl 1 rfl) ?_
      refine tget hx hb hts hown hE hI 1 (by decide) q2101 rfl dX7_partyLine_71 ?_
      refine lv_iconst (v := (3 : Int32)) hx hb dX7_partyLine_74 (by decide) ?_
      refine lv_dup2_11 hx hb dX7_partyLine_75 rfl rfl ?_
      refine taldc hx hb hE hI 1 781 3 rfl (by decide) (by decide) dX7_partyLine_76 ?_
      refine lv_iconst (v := (1 : Int32)) hx hb dX7_partyLine_77 (by decide) ?_
      refine lv_iadd hx hb dX7_partyLine_78 ?_
      obtain ⟨t79, et79, hf⟩ := obd hf
      refine tast hx hb hE hI 1 781 0 rfl (fun _ => rfl) et79 dX7_partyLine_79 (fun H locs hI => ?_)
      exact hret H locs 80 ls ((Option.some.inj hf) ▸ hI) dX7_partyLine_80
    · replace hf := ineg hc hf
      exact hret H locs 33 ls ((Option.some.inj hf) ▸ hI) dX7_partyLine_33
  refine lv_aload_n hx hb dX7_partyLine_0 rfl (lv_at hl 0 rfl) ?_
  refine tget hx hb hts hown hE hI 1 (by decide) q2101 rfl dX7_partyLine_1 ?_
  refine lv_iconst (v := (3 : Int32)) hx hb dX7_partyLine_4 (by decide) ?_
  refine taldc hx hb hE hI 1 781 3 rfl (by decide) (by decide) dX7_partyLine_5 ?_
  refine lv_bipush (v := (6 : Int32)) hx hb dX7_partyLine_6 (by decide) ?_
  refine lv_icmp_ne (tgt := 16) hx hb dX7_partyLine_8 (by decide) (fun hc => ?_) (fun hc => ?_)
  · replace hf := ineg hc hf
    exact hJ16 τ H locs ls hf hI  (lv_sub hl [0] rfl)
  · replace hf := ipos hc hf
    refine lv_aload_n hx hb dX7_partyLine_11 rfl (lv_at hl 0 rfl) ?_
    refine lv_iload_n hx hb dX7_partyLine_12 rfl (lv_at hl 1 rfl) ?_
    obtain ⟨t13, et13, hf⟩ := obd hf
    refine tcallV (rest := []) hx hb hts hown hE hz hI hml hl.1 (mX7_wrong τ a1 _ et13) (cwX7_wrong hts ⟨Nat.le_of_ble_eq_true rfl, Nat.le_of_ble_eq_true rfl⟩) ⟨Nat.le_of_ble_eq_true rfl, Nat.le_of_ble_eq_true rfl⟩ rfl rfl (lv_room (Nat.le_of_ble_eq_true rfl)) dX7_partyLine_13 (fun H locs hI => ?_)
    exact hJ16 t13 H locs ls hf hI  (lv_sub hl [0] rfl)
theorem cwX7_partyLine {R : Room} {s : State} {args : Array Value} {fr lo : Nat} (hts : ∀ w ∈ lw_all, w.before args s = true) (hR : fr + 1 ≤ R.frames ∧ 8 + (3 + 11) + lo ≤ R.locals) : CallW R s args RX7 RX7 161 yX7_partyLine cX7_partyLine 3 (none) (ws_ yX7_partyLine cX7_partyLine 3 (none)) ({ frames := fr, cells := 0, slots := 0, locals := lo }) 0 0 1 :=
  cwV 1 hts (lw_V q2292 q2294 qs78 q143 q2295) rfl rfl rfl (by decide +kernel) hR

def X7_after (τ : Mm) (i1 : Nat) (a2 : Int32) (a3 : Int32) : Option (Int32 × Mm) :=
  if (τ 10 12) = (-1 : Int32) then
    (X7_has τ i1).bind fun x10 =>
    if x10.1 = (0 : Int32) then
      (X7_wrong x10.2 (x10.2 10 11)).bind fun t21 =>
      (X7_figures t21 a2 a3).bind fun x27_6 =>
      some (x27_6.1, x27_6.2)
    else
      (X7_figures x10.2 a2 a3).bind fun x27_3 =>
      some (x27_3.1, x27_3.2)
  else
    (X7_figures τ a2 a3).bind fun x27 =>
    some (x27.1, x27.2)
set_option maxHeartbeats 4000000 in
theorem mX7_after (τ : Mm) (i1 : Nat) (a2 : Int32) (a3 : Int32) (hi1 : i1 < nS) (r : Int32) (τ' : Mm) (hf : X7_after τ i1 a2 a3 = some (r, τ')) : TMi yX7_after cX7_after 4 (some .int) 9 423 (fun aK => [.ref (aK i1), .int a2, .int a3]) r τ τ' := by
  refine TMi.of (by decide) rfl (fun _ _ => Nat.le_of_ble_eq_true rfl) ?_
  intro p l e s m args below meth c D cI cZ o z aK aV Q ls hz hx hb hml hown hts hE hret hI hl
  obtain ⟨H, eH⟩ : ∃ H, H = s.heap := ⟨_, rfl⟩
  obtain ⟨locs, eL⟩ : ∃ L : List Loc, L = [] := ⟨_, rfl⟩
  rw [← eH, ← eL] at hI ⊢
  have hl : lv_has ls 4 [(0, .ref o), (1, .ref (aK i1)), (2, .int a2), (3, .int a3)] := hl
  unfold X7_after at hf
  refine lv_aload_n hx hb dX7_after_0 rfl (lv_at hl 0 rfl) ?_
  refine tget hx hb hts hown hE hI 12 (by decide) q2112 rfl dX7_after_1 ?_
  refine lv_iconst (v := (-1 : Int32)) hx hb dX7_after_4 (by decide) ?_
  refine lv_icmp_ne (tgt := 24) hx hb dX7_after_5 (by decide) (fun hc => ?_) (fun hc => ?_)
  · replace hf := ineg hc hf
    refine lv_aload_n hx hb dX7_after_24 rfl (lv_at hl 0 rfl) ?_
    refine lv_iload_n hx hb dX7_after_25 rfl (lv_at hl 2 rfl) ?_
    refine lv_iload_n hx hb dX7_after_26 rfl (lv_at hl 3 rfl) ?_
    obtain ⟨x27, ex27, hf⟩ := obd hf
    refine tcallI (rest := []) hx hb hts hown hE hz hI hml hl.1 (mX7_figures τ a2 a3 _ _ ex27) (cwX7_figures hts ⟨Nat.le_of_ble_eq_true rfl, Nat.le_of_ble_eq_true rfl⟩) ⟨Nat.le_of_ble_eq_true rfl, Nat.le_of_ble_eq_true rfl⟩ rfl rfl (lv_room (Nat.le_of_ble_eq_true rfl)) dX7_after_27 (fun H locs hI => ?_)
    have hf := Prod.mk.inj (Option.some.inj hf)
    rw [hf.1]
    exact hret H locs 30 ls (hf.2 ▸ hI) dX7_after_30
  · replace hf := ipos hc hf
    refine lv_aload_n hx hb dX7_after_8 rfl (lv_at hl 0 rfl) ?_
    refine lv_aload_n hx hb dX7_after_9 rfl (lv_at hl 1 rfl) ?_
    obtain ⟨x10, ex10, hf⟩ := obd hf
    refine tcallI (rest := []) hx hb hts hown hE hz hI hml hl.1 (mX7_has τ i1 hi1 _ _ ex10) (cwX7_has hts ⟨Nat.le_of_ble_eq_true rfl, Nat.le_of_ble_eq_true rfl⟩) ⟨Nat.le_of_ble_eq_true rfl, Nat.le_of_ble_eq_true rfl⟩ rfl rfl (lv_room (Nat.le_of_ble_eq_true rfl)) dX7_after_10 (fun H locs hI => ?_)
    refine lv_if_ne (tgt := 24) hx hb dX7_after_13 (by decide) (fun hc => ?_) (fun hc => ?_)
    · replace hf := ineg hc hf
      refine lv_aload_n hx hb dX7_after_24 rfl (lv_at hl 0 rfl) ?_
      refine lv_iload_n hx hb dX7_after_25 rfl (lv_at hl 2 rfl) ?_
      refine lv_iload_n hx hb dX7_after_26 rfl (lv_at hl 3 rfl) ?_
      obtain ⟨x27_3, ex27_3, hf⟩ := obd hf
      refine tcallI (rest := []) hx hb hts hown hE hz hI hml hl.1 (mX7_figures x10.2 a2 a3 _ _ ex27_3) (cwX7_figures hts ⟨Nat.le_of_ble_eq_true rfl, Nat.le_of_ble_eq_true rfl⟩) ⟨Nat.le_of_ble_eq_true rfl, Nat.le_of_ble_eq_true rfl⟩ rfl rfl (lv_room (Nat.le_of_ble_eq_true rfl)) dX7_after_27 (fun H locs hI => ?_)
      have hf := Prod.mk.inj (Option.some.inj hf)
      rw [hf.1]
      exact hret H locs 30 ls (hf.2 ▸ hI) dX7_after_30
    · replace hf := ipos hc hf
      refine lv_aload_n hx hb dX7_after_16 rfl (lv_at hl 0 rfl) ?_
      refine lv_aload_n hx hb dX7_after_17 rfl (lv_at hl 0 rfl) ?_
      refine tget hx hb hts hown hE hI 11 (by decide) q2111 rfl dX7_after_18 ?_
      obtain ⟨t21, et21, hf⟩ := obd hf
      refine tcallV (rest := []) hx hb hts hown hE hz hI hml hl.1 (mX7_wrong x10.2 (x10.2 10 11) _ et21) (cwX7_wrong hts ⟨Nat.le_of_ble_eq_true rfl, Nat.le_of_ble_eq_true rfl⟩) ⟨Nat.le_of_ble_eq_true rfl, Nat.le_of_ble_eq_true rfl⟩ rfl rfl (lv_room (Nat.le_of_ble_eq_true rfl)) dX7_after_21 (fun H locs hI => ?_)
      refine lv_aload_n hx hb dX7_after_24 rfl (lv_at hl 0 rfl) ?_
      refine lv_iload_n hx hb dX7_after_25 rfl (lv_at hl 2 rfl) ?_
      refine lv_iload_n hx hb dX7_after_26 rfl (lv_at hl 3 rfl) ?_
      obtain ⟨x27_6, ex27_6, hf⟩ := obd hf
      refine tcallI (rest := []) hx hb hts hown hE hz hI hml hl.1 (mX7_figures t21 a2 a3 _ _ ex27_6) (cwX7_figures hts ⟨Nat.le_of_ble_eq_true rfl, Nat.le_of_ble_eq_true rfl⟩) ⟨Nat.le_of_ble_eq_true rfl, Nat.le_of_ble_eq_true rfl⟩ rfl rfl (lv_room (Nat.le_of_ble_eq_true rfl)) dX7_after_27 (fun H locs hI => ?_)
      have hf := Prod.mk.inj (Option.some.inj hf)
      rw [hf.1]
      exact hret H locs 30 ls (hf.2 ▸ hI) dX7_after_30
theorem cwX7_after {R : Room} {s : State} {args : Array Value} {fr lo : Nat} (hts : ∀ w ∈ lw_all, w.before args s = true) (hR : fr + 1 ≤ R.frames ∧ 8 + (4 + 11) + lo ≤ R.locals) : CallW R s args RX7 RX7 114 yX7_after cX7_after 4 (some .int) (ws_ yX7_after cX7_after 4 (some .int)) ({ frames := fr, cells := 0, slots := 0, locals := lo }) 0 0 3 :=
  cwV 3 hts (lw_V q2301 q2303 qs80 q143 q2304) rfl rfl rfl (by decide +kernel) hR

def X7_maybe (τ : Mm) (i1 : Nat) (a2 : Int32) (a3 : Int32) (a4 : Int32) : Option (Int32 × Mm) :=
  if (τ 10 12) = (-1 : Int32) then
    (X7_has τ i1).bind fun x10 =>
    if x10.1 = (0 : Int32) then
      some (a4, x10.2)
    else
      (X7_figures x10.2 a2 a3).bind fun x19 =>
      some (x19.1, x19.2)
  else
    some (a4, τ)
set_option maxHeartbeats 4000000 in
theorem mX7_maybe (τ : Mm) (i1 : Nat) (a2 : Int32) (a3 : Int32) (a4 : Int32) (hi1 : i1 < nS) (r : Int32) (τ' : Mm) (hf : X7_maybe τ i1 a2 a3 a4 = some (r, τ')) : TMi yX7_maybe cX7_maybe 5 (some .int) 9 423 (fun aK => [.ref (aK i1), .int a2, .int a3, .int a4]) r τ τ' := by
  refine TMi.of (by decide) rfl (fun _ _ => Nat.le_of_ble_eq_true rfl) ?_
  intro p l e s m args below meth c D cI cZ o z aK aV Q ls hz hx hb hml hown hts hE hret hI hl
  obtain ⟨H, eH⟩ : ∃ H, H = s.heap := ⟨_, rfl⟩
  obtain ⟨locs, eL⟩ : ∃ L : List Loc, L = [] := ⟨_, rfl⟩
  rw [← eH, ← eL] at hI ⊢
  have hl : lv_has ls 5 [(0, .ref o), (1, .ref (aK i1)), (2, .int a2), (3, .int a3), (4, .int a4)] := hl
  unfold X7_maybe at hf
  refine lv_aload_n hx hb dX7_maybe_0 rfl (lv_at hl 0 rfl) ?_
  refine tget hx hb hts hown hE hI 12 (by decide) q2112 rfl dX7_maybe_1 ?_
  refine lv_iconst (v := (-1 : Int32)) hx hb dX7_maybe_4 (by decide) ?_
  refine lv_icmp_ne (tgt := 25) hx hb dX7_maybe_5 (by decide) (fun hc => ?_) (fun hc => ?_)
  · replace hf := ineg hc hf
    refine lv_iload hx hb dX7_maybe_25 (lv_at hl 4 rfl) ?_
    have hf := Prod.mk.inj (Option.some.inj hf)
    rw [hf.1]
    exact hret H locs 27 ls (hf.2 ▸ hI) dX7_maybe_27
  · replace hf := ipos hc hf
    refine lv_aload_n hx hb dX7_maybe_8 rfl (lv_at hl 0 rfl) ?_
    refine lv_aload_n hx hb dX7_maybe_9 rfl (lv_at hl 1 rfl) ?_
    obtain ⟨x10, ex10, hf⟩ := obd hf
    refine tcallI (rest := []) hx hb hts hown hE hz hI hml hl.1 (mX7_has τ i1 hi1 _ _ ex10) (cwX7_has hts ⟨Nat.le_of_ble_eq_true rfl, Nat.le_of_ble_eq_true rfl⟩) ⟨Nat.le_of_ble_eq_true rfl, Nat.le_of_ble_eq_true rfl⟩ rfl rfl (lv_room (Nat.le_of_ble_eq_true rfl)) dX7_maybe_10 (fun H locs hI => ?_)
    refine lv_if_eq (tgt := 25) hx hb dX7_maybe_13 (by decide) (fun hc => ?_) (fun hc => ?_)
    · replace hf := ipos hc hf
      refine lv_iload hx hb dX7_maybe_25 (lv_at hl 4 rfl) ?_
      have hf := Prod.mk.inj (Option.some.inj hf)
      rw [hf.1]
      exact hret H locs 27 ls (hf.2 ▸ hI) dX7_maybe_27
    · replace hf := ineg hc hf
      refine lv_aload_n hx hb dX7_maybe_16 rfl (lv_at hl 0 rfl) ?_
      refine lv_iload_n hx hb dX7_maybe_17 rfl (lv_at hl 2 rfl) ?_
      refine lv_iload_n hx hb dX7_maybe_18 rfl (lv_at hl 3 rfl) ?_
      obtain ⟨x19, ex19, hf⟩ := obd hf
      refine tcallI (rest := []) hx hb hts hown hE hz hI hml hl.1 (mX7_figures x10.2 a2 a3 _ _ ex19) (cwX7_figures hts ⟨Nat.le_of_ble_eq_true rfl, Nat.le_of_ble_eq_true rfl⟩) ⟨Nat.le_of_ble_eq_true rfl, Nat.le_of_ble_eq_true rfl⟩ rfl rfl (lv_room (Nat.le_of_ble_eq_true rfl)) dX7_maybe_19 (fun H locs hI => ?_)
      refine lv_goto (tgt := 27) hx hb dX7_maybe_22 (by decide) ?_
      have hf := Prod.mk.inj (Option.some.inj hf)
      rw [hf.1]
      exact hret H locs 27 ls (hf.2 ▸ hI) dX7_maybe_27
theorem cwX7_maybe {R : Room} {s : State} {args : Array Value} {fr lo : Nat} (hts : ∀ w ∈ lw_all, w.before args s = true) (hR : fr + 1 ≤ R.frames ∧ 8 + (5 + 11) + lo ≤ R.locals) : CallW R s args RX7 RX7 120 yX7_maybe cX7_maybe 5 (some .int) (ws_ yX7_maybe cX7_maybe 5 (some .int)) ({ frames := fr, cells := 0, slots := 0, locals := lo }) 0 0 4 :=
  cwV 4 hts (lw_V q2306 q2308 qs81 q143 q2309) rfl rfl rfl (by decide +kernel) hR

def X7_inkLine_J16 (τ : Mm) : Option (Mm) :=
  (X7_after τ 9 (1 : Int32) (99 : Int32)).bind fun x22 =>
  (X7_maybe x22.2 10 (0 : Int32) (99 : Int32) (0 : Int32)).bind fun x33 =>
  (X7_maybe x33.2 11 (0 : Int32) (9 : Int32) (0 : Int32)).bind fun x44 =>
  if (x44.2 10 12) = (-1 : Int32) then
    (some ((27 : Int32) + ((3 : Int32) * (x44.2 0 4)))).bind fun v69 =>
    (sto 781 x44.2 0 (v69 + (0 : Int32)) x22.1).bind fun t80 =>
    (sto 781 t80 0 (v69 + (1 : Int32)) x33.1).bind fun t90 =>
    (sto 781 t90 0 (v69 + (2 : Int32)) x44.1).bind fun t101 =>
    (sto 781 t101 0 (4 : Int32) ((t101 0 4) + (1 : Int32))).bind fun t111 =>
    some t111
  else
    some x44.2
def X7_inkLine (τ : Mm) (a1 : Int32) : Option (Mm) :=
  if (τ 0 4) = (6 : Int32) then
    (X7_wrong τ a1).bind fun t13 =>
    X7_inkLine_J16 t13
  else
    X7_inkLine_J16 τ
set_option maxHeartbeats 4000000 in
theorem mX7_inkLine (τ : Mm) (a1 : Int32) (τ' : Mm) (hf : X7_inkLine τ a1 = some τ') : TMv yX7_inkLine cX7_inkLine 6 none 10 447 (fun aK => [.int a1]) τ τ' := by
  refine TMv.of (by decide) rfl (fun _ _ => Nat.le_of_ble_eq_true rfl) ?_
  intro p l e s m args below meth c D cI cZ o z aK aV Q ls hz hx hb hml hown hts hE hret hI hl
  obtain ⟨H, eH⟩ : ∃ H, H = s.heap := ⟨_, rfl⟩
  obtain ⟨locs, eL⟩ : ∃ L : List Loc, L = [] := ⟨_, rfl⟩
  rw [← eH, ← eL] at hI ⊢
  have hl : lv_has ls 6 [(0, .ref o), (1, .int a1)] := hl
  unfold X7_inkLine at hf
  have hJ16 : ∀ (τ : Mm) (H : Heap) (locs : List Loc) (ls : Array Slot), X7_inkLine_J16 τ = some τ' → IT D cI cZ o s H locs τ → lv_has ls 6 [(0, .ref o)] → W p l e ({ frames := 10, cells := 0, slots := 0, locals := 447 } : Room) s m args below meth c H locs 0 0 Q (F0 m 16 ls []) := by
    intro τ  H locs ls hf hI hl
    unfold X7_inkLine_J16 at hf
    refine lv_aload_n hx hb dX7_inkLine_16 rfl (lv_at hl 0 rfl) ?_
    refine va_ldcS hx hb hown (hE.2.at 44 rfl) dX7_inkLine_17 ?_
    refine lv_iconst (v := (1 : Int32)) hx hb dX7_inkLine_19 (by decide) ?_
    refine lv_bipush (v := (99 : Int32)) hx hb dX7_inkLine_20 (by decide) ?_
    obtain ⟨x22, ex22, hf⟩ := obd hf
    refine tcallI (rest := []) hx hb hts hown hE hz hI hml hl.1 (mX7_after τ 9 (1 : Int32) (99 : Int32) (by decide) _ _ ex22) (cwX7_after hts ⟨Nat.le_of_ble_eq_true rfl, Nat.le_of_ble_eq_true rfl⟩) ⟨Nat.le_of_ble_eq_true rfl, Nat.le_of_ble_eq_true rfl⟩ rfl rfl (lv_room (Nat.le_of_ble_eq_true rfl)) dX7_inkLine_22 (fun H locs hI => ?_)
    refine lv_istore_n (lv' := [(2, .int x22.1), (0, .ref o)]) hx hb dX7_inkLine_25 rfl hl (by decide) rfl (fun ls hl => ?_)
    refine lv_aload_n hx hb dX7_inkLine_26 rfl (lv_at hl 1 rfl) ?_
    refine va_ldcS hx hb hown (hE.2.at 45 rfl) dX7_inkLine_27 ?_
    refine lv_iconst (v := (0 : Int32)) hx hb dX7_inkLine_29 (by decide) ?_
    refine lv_bipush (v := (99 : Int32)) hx hb dX7_inkLine_30 (by decide) ?_
    refine lv_iconst (v := (0 : Int32)) hx hb dX7_inkLine_32 (by decide) ?_
    obtain ⟨x33, ex33, hf⟩ := obd hf
    refine tcallI (rest := []) hx hb hts hown hE hz hI hml hl.1 (mX7_maybe x22.2 10 (0 : Int32) (99 : Int32) (0 : Int32) (by decide) _ _ ex33) (cwX7_maybe hts ⟨Nat.le_of_ble_eq_true rfl, Nat.le_of_ble_eq_true rfl⟩) ⟨Nat.le_of_ble_eq_true rfl, Nat.le_of_ble_eq_true rfl⟩ rfl rfl (lv_room (Nat.le_of_ble_eq_true rfl)) dX7_inkLine_33 (fun H locs hI => ?_)
    refine lv_istore_n (lv' := [(3, .int x33.1), (2, .int x22.1), (0, .ref o)]) hx hb dX7_inkLine_36 rfl hl (by decide) rfl (fun ls hl => ?_)
    refine lv_aload_n hx hb dX7_inkLine_37 rfl (lv_at hl 2 rfl) ?_
    refine va_ldcS hx hb hown (hE.2.at 46 rfl) dX7_inkLine_38 ?_
    refine lv_iconst (v := (0 : Int32)) hx hb dX7_inkLine_40 (by decide) ?_
    refine lv_bipush (v := (9 : Int32)) hx hb dX7_inkLine_41 (by decide) ?_
    refine lv_iconst (v := (0 : Int32)) hx hb dX7_inkLine_43 (by decide) ?_
    obtain ⟨x44, ex44, hf⟩ := obd hf
    refine tcallI (rest := []) hx hb hts hown hE hz hI hml hl.1 (mX7_maybe x33.2 11 (0 : Int32) (9 : Int32) (0 : Int32) (by decide) _ _ ex44) (cwX7_maybe hts ⟨Nat.le_of_ble_eq_true rfl, Nat.le_of_ble_eq_true rfl⟩) ⟨Nat.le_of_ble_eq_true rfl, Nat.le_of_ble_eq_true rfl⟩ rfl rfl (lv_room (Nat.le_of_ble_eq_true rfl)) dX7_inkLine_44 (fun H locs hI => ?_)
    refine lv_istore (lv' := [(4, .int x44.1), (3, .int x33.1), (2, .int x22.1), (0, .ref o)]) hx hb dX7_inkLine_47 hl (by decide) rfl (fun ls hl => ?_)
    refine lv_aload_n hx hb dX7_inkLine_49 rfl (lv_at hl 3 rfl) ?_
    refine tget hx hb hts hown hE hI 12 (by decide) q2112 rfl dX7_inkLine_50 ?_
    refine lv_iconst (v := (-1 : Int32)) hx hb dX7_inkLine_53 (by decide) ?_
    refine lv_icmp_eq (tgt := 58) hx hb dX7_inkLine_54 (by decide) (fun hc => ?_) (fun hc => ?_)
    · replace hf := ipos hc hf
      refine lv_bipush (v := (27 : Int32)) hx hb dX7_inkLine_58 (by decide) ?_
      refine lv_iconst (v := (3 : Int32)) hx hb dX7_inkLine_60 (by decide) ?_
      refine lv_aload_n hx hb dX7_inkLine_61 rfl (lv_at hl 3 rfl) ?_
      refine tget hx hb hts hown hE hI 1 (by decide) q2101 rfl dX7_inkLine_62 ?_
      refine lv_iconst (v := (4 : Int32)) hx hb dX7_inkLine_65 (by decide) ?_
      refine taldc hx hb hE hI 1 781 4 rfl (by decide) (by decide) dX7_inkLine_66 ?_
      refine lv_imul hx hb dX7_inkLine_67 ?_
      refine lv_iadd hx hb dX7_inkLine_68 ?_
      obtain ⟨v69, ev69, hf⟩ := obd hf
      refine nmI ev69 ?_
      refine lv_istore (lv' := [(5, .int v69), (4, .int x44.1), (3, .int x33.1), (2, .int x22.1), (0, .ref o)]) hx hb dX7_inkLine_69 hl (by decide) rfl (fun ls hl => ?_)
      refine lv_aload_n hx hb dX7_inkLine_71 rfl (lv_at hl 4 rfl) ?_
      refine tget hx hb hts hown hE hI 1 (by decide) q2101 rfl dX7_inkLine_72 ?_
      refine lv_iload hx hb dX7_inkLine_75 (lv_at hl 0 rfl) ?_
      refine lv_iconst (v := (0 : Int32)) hx hb dX7_inkLine_77 (by decide) ?_
      refine lv_iadd hx hb dX7_inkLine_78 ?_
      refine lv_iload_n hx hb dX7_inkLine_79 rfl (lv_at hl 3 rfl) ?_
      obtain ⟨t80, et80, hf⟩ := obd hf
      refine tast hx hb hE hI 1 781 0 rfl (fun _ => rfl) et80 dX7_inkLine_80 (fun H locs hI => ?_)
      refine lv_aload_n hx hb dX7_inkLine_81 rfl (lv_at hl 4 rfl) ?_
      refine tget hx hb hts hown hE hI 1 (by decide) q2101 rfl dX7_inkLine_82 ?_
      refine lv_iload hx hb dX7_inkLine_85 (lv_at hl 0 rfl) ?_
      refine lv_iconst (v := (1 : Int32)) hx hb dX7_inkLine_87 (by decide) ?_
      refine lv_iadd hx hb dX7_inkLine_88 ?_
      refine lv_iload_n hx hb dX7_inkLine_89 rfl (lv_at hl 2 rfl) ?_
      obtain ⟨t90, et90, hf⟩ := obd hf
      refine tast hx hb hE hI 1 781 0 rfl (fun _ => rfl) et90 dX7_inkLine_90 (fun H locs hI => ?_)
      refine lv_aload_n hx hb dX7_inkLine_91 rfl (lv_at hl 4 rfl) ?_
      refine tget hx hb hts hown hE hI 1 (by decide) q2101 rfl dX7_inkLine_92 ?_
      refine lv_iload hx hb dX7_inkLine_95 (lv_at hl 0 rfl) ?_
      refine lv_iconst (v := (2 : Int32)) hx hb dX7_inkLine_97 (by decide) ?_
      refine lv_iadd hx hb dX7_inkLine_98 ?_
      refine lv_iload hx hb dX7_inkLine_99 (lv_at hl 1 rfl) ?_
      obtain ⟨t101, et101, hf⟩ := obd hf
      refine tast hx hb hE hI 1 781 0 rfl (fun _ => rfl) et101 dX7_inkLine_101 (fun H locs hI => ?_)
      refine lv_aload_n hx hb dX7_inkLine_102 rfl (lv_at hl 4 rfl) ?_
      refine tget hx hb hts hown hE hI 1 (by decide) q2101 rfl dX7_inkLine_103 ?_
      refine lv_iconst (v := (4 : Int32)) hx hb dX7_inkLine_106 (by decide) ?_
      refine lv_dup2_11 hx hb dX7_inkLine_107 rfl rfl ?_
      refine taldc hx hb hE hI 1 781 4 rfl (by decide) (by decide) dX7_inkLine_108 ?_
      refine lv_iconst (v := (1 : Int32)) hx hb dX7_inkLine_109 (by decide) ?_
      refine lv_iadd hx hb dX7_inkLine_110 ?_
      obtain ⟨t111, et111, hf⟩ := obd hf
      refine tast hx hb hE hI 1 781 0 rfl (fun _ => rfl) et111 dX7_inkLine_111 (fun H locs hI => ?_)
      exact hret H locs 112 ls ((Option.some.inj hf) ▸ hI) dX7_inkLine_112
    · replace hf := ineg hc hf
      exact hret H locs 57 ls ((Option.some.inj hf) ▸ hI) dX7_inkLine_57
  refine lv_aload_n hx hb dX7_inkLine_0 rfl (lv_at hl 0 rfl) ?_
  refine tget hx hb hts hown hE hI 1 (by decide) q2101 rfl dX7_inkLine_1 ?_
  refine lv_iconst (v := (4 : Int32)) hx hb dX7_inkLine_4 (by decide) ?_
  refine taldc hx hb hE hI 1 781 4 rfl (by decide) (by decide) dX7_inkLine_5 ?_
  refine lv_bipush (v := (6 : Int32)) hx hb dX7_inkLine_6 (by decide) ?_
  refine lv_icmp_ne (tgt := 16) hx hb dX7_inkLine_8 (by decide) (fun hc => ?_) (fun hc => ?_)
  · replace hf := ineg hc hf
    exact hJ16 τ H locs ls hf hI  (lv_sub hl [0] rfl)
  · replace hf := ipos hc hf
    refine lv_aload_n hx hb dX7_inkLine_11 rfl (lv_at hl 0 rfl) ?_
    refine lv_iload_n hx hb dX7_inkLine_12 rfl (lv_at hl 1 rfl) ?_
    obtain ⟨t13, et13, hf⟩ := obd hf
    refine tcallV (rest := []) hx hb hts hown hE hz hI hml hl.1 (mX7_wrong τ a1 _ et13) (cwX7_wrong hts ⟨Nat.le_of_ble_eq_true rfl, Nat.le_of_ble_eq_true rfl⟩) ⟨Nat.le_of_ble_eq_true rfl, Nat.le_of_ble_eq_true rfl⟩ rfl rfl (lv_room (Nat.le_of_ble_eq_true rfl)) dX7_inkLine_13 (fun H locs hI => ?_)
    exact hJ16 t13 H locs ls hf hI  (lv_sub hl [0] rfl)
theorem cwX7_inkLine {R : Room} {s : State} {args : Array Value} {fr lo : Nat} (hts : ∀ w ∈ lw_all, w.before args s = true) (hR : fr + 1 ≤ R.frames ∧ 8 + (6 + 11) + lo ≤ R.locals) : CallW R s args RX7 RX7 164 yX7_inkLine cX7_inkLine 6 (none) (ws_ yX7_inkLine cX7_inkLine 6 (none)) ({ frames := fr, cells := 0, slots := 0, locals := lo }) 0 0 1 :=
  cwV 1 hts (lw_V q2296 q2298 qs79 q143 q2299) rfl rfl rfl (by decide +kernel) hR

def X7_expects (τ : Mm) (i1 : Nat) : Option (Int32 × Mm) :=
  if (τ 10 12) = (-1 : Int32) then
    (X7_has τ i1).bind fun x12 =>
    if x12.1 = (0 : Int32) then
      (X7_wrong x12.2 (x12.2 10 11)).bind fun t25 =>
      (zb x12.1).bind fun _ =>
      some (x12.1, t25)
    else
      (zb x12.1).bind fun _ =>
      some (x12.1, x12.2)
  else
    some ((0 : Int32), τ)
set_option maxHeartbeats 4000000 in
theorem mX7_expects (τ : Mm) (i1 : Nat) (hi1 : i1 < nS) (r : Int32) (τ' : Mm) (hf : X7_expects τ i1 = some (r, τ')) : TMi yX7_expects cX7_expects 3 (some .boolean) 9 423 (fun aK => [.ref (aK i1)]) r τ τ' := by
  refine TMz.of (by decide) rfl (fun _ _ => Nat.le_of_ble_eq_true rfl) ?_
  intro p l e s m args below meth c D cI cZ o z aK aV Q ls hz hx hb hml hown hts hE hret hI hl
  obtain ⟨H, eH⟩ : ∃ H, H = s.heap := ⟨_, rfl⟩
  obtain ⟨locs, eL⟩ : ∃ L : List Loc, L = [] := ⟨_, rfl⟩
  rw [← eH, ← eL] at hI ⊢
  have hl : lv_has ls 3 [(0, .ref o), (1, .ref (aK i1))] := hl
  unfold X7_expects at hf
  refine lv_aload_n hx hb dX7_expects_0 rfl (lv_at hl 0 rfl) ?_
  refine tget hx hb hts hown hE hI 12 (by decide) q2112 rfl dX7_expects_1 ?_
  refine lv_iconst (v := (-1 : Int32)) hx hb dX7_expects_4 (by decide) ?_
  refine lv_icmp_eq (tgt := 10) hx hb dX7_expects_5 (by decide) (fun hc => ?_) (fun hc => ?_)
  · replace hf := ipos hc hf
    refine lv_aload_n hx hb dX7_expects_10 rfl (lv_at hl 0 rfl) ?_
    refine lv_aload_n hx hb dX7_expects_11 rfl (lv_at hl 1 rfl) ?_
    obtain ⟨x12, ex12, hf⟩ := obd hf
    refine tcallI (rest := []) hx hb hts hown hE hz hI hml hl.1 (mX7_has τ i1 hi1 _ _ ex12) (cwX7_has hts ⟨Nat.le_of_ble_eq_true rfl, Nat.le_of_ble_eq_true rfl⟩) ⟨Nat.le_of_ble_eq_true rfl, Nat.le_of_ble_eq_true rfl⟩ rfl rfl (lv_room (Nat.le_of_ble_eq_true rfl)) dX7_expects_12 (fun H locs hI => ?_)
    refine lv_istore_n (lv' := [(2, .int x12.1), (0, .ref o), (1, .ref (aK i1))]) hx hb dX7_expects_15 rfl hl (by decide) rfl (fun ls hl => ?_)
    refine lv_iload_n hx hb dX7_expects_16 rfl (lv_at hl 0 rfl) ?_
    refine lv_if_ne (tgt := 28) hx hb dX7_expects_17 (by decide) (fun hc => ?_) (fun hc => ?_)
    · replace hf := ineg hc hf
      refine lv_iload_n hx hb dX7_expects_28 rfl (lv_at hl 0 rfl) ?_
      obtain ⟨_, eb29, hf⟩ := obd hf
      have hf := Prod.mk.inj (Option.some.inj hf)
      rw [hf.1]
      exact hret H locs 29 ls (hf.2 ▸ hI) (hf.1 ▸ (zb_e eb29).2) dX7_expects_29
    · replace hf := ipos hc hf
      refine lv_aload_n hx hb dX7_expects_20 rfl (lv_at hl 1 rfl) ?_
      refine lv_aload_n hx hb dX7_expects_21 rfl (lv_at hl 1 rfl) ?_
      refine tget hx hb hts hown hE hI 11 (by decide) q2111 rfl dX7_expects_22 ?_
      obtain ⟨t25, et25, hf⟩ := obd hf
      refine tcallV (rest := []) hx hb hts hown hE hz hI hml hl.1 (mX7_wrong x12.2 (x12.2 10 11) _ et25) (cwX7_wrong hts ⟨Nat.le_of_ble_eq_true rfl, Nat.le_of_ble_eq_true rfl⟩) ⟨Nat.le_of_ble_eq_true rfl, Nat.le_of_ble_eq_true rfl⟩ rfl rfl (lv_room (Nat.le_of_ble_eq_true rfl)) dX7_expects_25 (fun H locs hI => ?_)
      refine lv_iload_n hx hb dX7_expects_28 rfl (lv_at hl 0 rfl) ?_
      obtain ⟨_, eb29_5, hf⟩ := obd hf
      have hf := Prod.mk.inj (Option.some.inj hf)
      rw [hf.1]
      exact hret H locs 29 ls (hf.2 ▸ hI) (hf.1 ▸ (zb_e eb29_5).2) dX7_expects_29
  · replace hf := ineg hc hf
    refine lv_iconst (v := (0 : Int32)) hx hb dX7_expects_8 (by decide) ?_
    have hf := Prod.mk.inj (Option.some.inj hf)
    rw [hf.1]
    exact hret H locs 9 ls (hf.2 ▸ hI) (hf.1 ▸ (by decide)) dX7_expects_9
theorem cwX7_expects {R : Room} {s : State} {args : Array Value} {fr lo : Nat} (hts : ∀ w ∈ lw_all, w.before args s = true) (hR : fr + 1 ≤ R.frames ∧ 8 + (3 + 11) + lo ≤ R.locals) : CallW R s args RX7 RX7 132 yX7_expects cX7_expects 3 (some .boolean) (ws_ yX7_expects cX7_expects 3 (some .boolean)) ({ frames := fr, cells := 0, slots := 0, locals := lo }) 0 0 1 :=
  cwV 1 hts (lw_V q2317 q2319 qs83 q143 q2320) rfl rfl rfl (by decide +kernel) hR

def X7_lays (τ : Mm) (a1 : Int32) (a2 : Int32) (a3 : Int32) : Option (Mm) :=
  (sto 781 τ 0 (((45 : Int32) + ((12 : Int32) * a1)) + a2) a3).bind fun t14 =>
  some t14
set_option maxHeartbeats 4000000 in
theorem mX7_lays (τ : Mm) (a1 : Int32) (a2 : Int32) (a3 : Int32) (τ' : Mm) (hf : X7_lays τ a1 a2 a3 = some τ') : TMv yX7_lays cX7_lays 4 none 1 40 (fun aK => [.int a1, .int a2, .int a3]) τ τ' := by
  refine TMv.of (by decide) rfl (fun _ _ => Nat.le_of_ble_eq_true rfl) ?_
  intro p l e s m args below meth c D cI cZ o z aK aV Q ls hz hx hb hml hown hts hE hret hI hl
  obtain ⟨H, eH⟩ : ∃ H, H = s.heap := ⟨_, rfl⟩
  obtain ⟨locs, eL⟩ : ∃ L : List Loc, L = [] := ⟨_, rfl⟩
  rw [← eH, ← eL] at hI ⊢
  have hl : lv_has ls 4 [(0, .ref o), (1, .int a1), (2, .int a2), (3, .int a3)] := hl
  unfold X7_lays at hf
  refine lv_aload_n hx hb dX7_lays_0 rfl (lv_at hl 0 rfl) ?_
  refine tget hx hb hts hown hE hI 1 (by decide) q2101 rfl dX7_lays_1 ?_
  refine lv_bipush (v := (45 : Int32)) hx hb dX7_lays_4 (by decide) ?_
  refine lv_bipush (v := (12 : Int32)) hx hb dX7_lays_6 (by decide) ?_
  refine lv_iload_n hx hb dX7_lays_8 rfl (lv_at hl 1 rfl) ?_
  refine lv_imul hx hb dX7_lays_9 ?_
  refine lv_iadd hx hb dX7_lays_10 ?_
  refine lv_iload_n hx hb dX7_lays_11 rfl (lv_at hl 2 rfl) ?_
  refine lv_iadd hx hb dX7_lays_12 ?_
  refine lv_iload_n hx hb dX7_lays_13 rfl (lv_at hl 3 rfl) ?_
  obtain ⟨t14, et14, hf⟩ := obd hf
  refine tast hx hb hE hI 1 781 0 rfl (fun _ => rfl) et14 dX7_lays_14 (fun H locs hI => ?_)
  exact hret H locs 15 ls ((Option.some.inj hf) ▸ hI) dX7_lays_15
theorem cwX7_lays {R : Room} {s : State} {args : Array Value} {fr lo : Nat} (hts : ∀ w ∈ lw_all, w.before args s = true) (hR : fr + 1 ≤ R.frames ∧ 8 + (4 + 11) + lo ≤ R.locals) : CallW R s args RX7 RX7 147 yX7_lays cX7_lays 4 (none) (ws_ yX7_lays cX7_lays 4 (none)) ({ frames := fr, cells := 0, slots := 0, locals := lo }) 0 0 3 :=
  cwV 3 hts (lw_V q2328 q2330 qs85 q143 q2331) rfl rfl rfl (by decide +kernel) hR

def X7_adds (τ : Mm) (a1 : Int32) (a2 : Int32) (a3 : Int32) (a4 : Int32) (a5 : Int32) (a6 : Int32) (a7 : Int32) : Option (Mm) :=
  (some (τ 0 5)).bind fun v6 =>
  (X7_lays τ v6 (0 : Int32) a1).bind fun t13 =>
  (X7_lays t13 v6 (1 : Int32) a2).bind fun t21 =>
  (X7_lays t21 v6 (2 : Int32) a3).bind fun t29 =>
  (X7_lays t29 v6 (3 : Int32) a4).bind fun t38 =>
  (X7_lays t38 v6 (4 : Int32) a5).bind fun t47 =>
  (X7_lays t47 v6 (5 : Int32) a6).bind fun t56 =>
  (X7_lays t56 v6 (6 : Int32) a7).bind fun t66 =>
  (X7_lays t66 v6 (7 : Int32) (t66 0 6)).bind fun t81 =>
  (X7_lays t81 v6 (8 : Int32) (0 : Int32)).bind fun t90 =>
  (X7_lays t90 v6 (9 : Int32) (-1 : Int32)).bind fun t99 =>
  (X7_lays t99 v6 (10 : Int32) (0 : Int32)).bind fun t108 =>
  (X7_lays t108 v6 (11 : Int32) (0 : Int32)).bind fun t117 =>
  (sto 781 t117 0 (5 : Int32) ((t117 0 5) + (1 : Int32))).bind fun t129 =>
  some t129
set_option maxHeartbeats 4000000 in
theorem mX7_adds (τ : Mm) (a1 : Int32) (a2 : Int32) (a3 : Int32) (a4 : Int32) (a5 : Int32) (a6 : Int32) (a7 : Int32) (τ' : Mm) (hf : X7_adds τ a1 a2 a3 a4 a5 a6 a7 = some τ') : TMv yX7_adds cX7_adds 9 none 2 63 (fun aK => [.int a1, .int a2, .int a3, .int a4, .int a5, .int a6, .int a7]) τ τ' := by
  refine TMv.of (by decide) rfl (fun _ _ => Nat.le_of_ble_eq_true rfl) ?_
  intro p l e s m args below meth c D cI cZ o z aK aV Q ls hz hx hb hml hown hts hE hret hI hl
  obtain ⟨H, eH⟩ : ∃ H, H = s.heap := ⟨_, rfl⟩
  obtain ⟨locs, eL⟩ : ∃ L : List Loc, L = [] := ⟨_, rfl⟩
  rw [← eH, ← eL] at hI ⊢
  have hl : lv_has ls 9 [(0, .ref o), (1, .int a1), (2, .int a2), (3, .int a3), (4, .int a4), (5, .int a5), (6, .int a6), (7, .int a7)] := hl
  unfold X7_adds at hf
  refine lv_aload_n hx hb dX7_adds_0 rfl (lv_at hl 0 rfl) ?_
  refine tget hx hb hts hown hE hI 1 (by decide) q2101 rfl dX7_adds_1 ?_
  refine lv_iconst (v := (5 : Int32)) hx hb dX7_adds_4 (by decide) ?_
  refine taldc hx hb hE hI 1 781 5 rfl (by decide) (by decide) dX7_adds_5 ?_
  obtain ⟨v6, ev6, hf⟩ := obd hf
  refine nmI ev6 ?_
  refine lv_istore (lv' := [(8, .int v6), (0, .ref o), (1, .int a1), (2, .int a2), (3, .int a3), (4, .int a4), (5, .int a5), (6, .int a6), (7, .int a7)]) hx hb dX7_adds_6 hl (by decide) rfl (fun ls hl => ?_)
  refine lv_aload_n hx hb dX7_adds_8 rfl (lv_at hl 1 rfl) ?_
  refine lv_iload hx hb dX7_adds_9 (lv_at hl 0 rfl) ?_
  refine lv_iconst (v := (0 : Int32)) hx hb dX7_adds_11 (by decide) ?_
  refine lv_iload_n hx hb dX7_adds_12 rfl (lv_at hl 2 rfl) ?_
  obtain ⟨t13, et13, hf⟩ := obd hf
  refine tcallV (rest := []) hx hb hts hown hE hz hI hml hl.1 (mX7_lays τ v6 (0 : Int32) a1 _ et13) (cwX7_lays hts ⟨Nat.le_of_ble_eq_true rfl, Nat.le_of_ble_eq_true rfl⟩) ⟨Nat.le_of_ble_eq_true rfl, Nat.le_of_ble_eq_true rfl⟩ rfl rfl (lv_room (Nat.le_of_ble_eq_true rfl)) dX7_adds_13 (fun H locs hI => ?_)
  refine lv_aload_n hx hb dX7_adds_16 rfl (lv_at hl 1 rfl) ?_
  refine lv_iload hx hb dX7_adds_17 (lv_at hl 0 rfl) ?_
  refine lv_iconst (v := (1 : Int32)) hx hb dX7_adds_19 (by decide) ?_
  refine lv_iload_n hx hb dX7_adds_20 rfl (lv_at hl 3 rfl) ?_
  obtain ⟨t21, et21, hf⟩ := obd hf
  refine tcallV (rest := []) hx hb hts hown hE hz hI hml hl.1 (mX7_lays t13 v6 (1 : Int32) a2 _ et21) (cwX7_lays hts ⟨Nat.le_of_ble_eq_true rfl, Nat.le_of_ble_eq_true rfl⟩) ⟨Nat.le_of_ble_eq_true rfl, Nat.le_of_ble_eq_true rfl⟩ rfl rfl (lv_room (Nat.le_of_ble_eq_true rfl)) dX7_adds_21 (fun H locs hI => ?_)
  refine lv_aload_n hx hb dX7_adds_24 rfl (lv_at hl 1 rfl) ?_
  refine lv_iload hx hb dX7_adds_25 (lv_at hl 0 rfl) ?_
  refine lv_iconst (v := (2 : Int32)) hx hb dX7_adds_27 (by decide) ?_
  refine lv_iload_n hx hb dX7_adds_28 rfl (lv_at hl 4 rfl) ?_
  obtain ⟨t29, et29, hf⟩ := obd hf
  refine tcallV (rest := []) hx hb hts hown hE hz hI hml hl.1 (mX7_lays t21 v6 (2 : Int32) a3 _ et29) (cwX7_lays hts ⟨Nat.le_of_ble_eq_true rfl, Nat.le_of_ble_eq_true rfl⟩) ⟨Nat.le_of_ble_eq_true rfl, Nat.le_of_ble_eq_true rfl⟩ rfl rfl (lv_room (Nat.le_of_ble_eq_true rfl)) dX7_adds_29 (fun H locs hI => ?_)
  refine lv_aload_n hx hb dX7_adds_32 rfl (lv_at hl 1 rfl) ?_
  refine lv_iload hx hb dX7_adds_33 (lv_at hl 0 rfl) ?_
  refine lv_iconst (v := (3 : Int32)) hx hb dX7_adds_35 (by decide) ?_
  refine lv_iload hx hb dX7_adds_36 (lv_at hl 5 rfl) ?_
  obtain ⟨t38, et38, hf⟩ := obd hf
  refine tcallV (rest := []) hx hb hts hown hE hz hI hml hl.1 (mX7_lays t29 v6 (3 : Int32) a4 _ et38) (cwX7_lays hts ⟨Nat.le_of_ble_eq_true rfl, Nat.le_of_ble_eq_true rfl⟩) ⟨Nat.le_of_ble_eq_true rfl, Nat.le_of_ble_eq_true rfl⟩ rfl rfl (lv_room (Nat.le_of_ble_eq_true rfl)) dX7_adds_38 (fun H locs hI => ?_)
  refine lv_aload_n hx hb dX7_adds_41 rfl (lv_at hl 1 rfl) ?_
  refine lv_iload hx hb dX7_adds_42 (lv_at hl 0 rfl) ?_
  refine lv_iconst (v := (4 : Int32)) hx hb dX7_adds_44 (by decide) ?_
  refine lv_iload hx hb dX7_adds_45 (lv_at hl 6 rfl) ?_
  obtain ⟨t47, et47, hf⟩ := obd hf
  refine tcallV (rest := []) hx hb hts hown hE hz hI hml hl.1 (mX7_lays t38 v6 (4 : Int32) a5 _ et47) (cwX7_lays hts ⟨Nat.le_of_ble_eq_true rfl, Nat.le_of_ble_eq_true rfl⟩) ⟨Nat.le_of_ble_eq_true rfl, Nat.le_of_ble_eq_true rfl⟩ rfl rfl (lv_room (Nat.le_of_ble_eq_true rfl)) dX7_adds_47 (fun H locs hI => ?_)
  refine lv_aload_n hx hb dX7_adds_50 rfl (lv_at hl 1 rfl) ?_
  refine lv_iload hx hb dX7_adds_51 (lv_at hl 0 rfl) ?_
  refine lv_iconst (v := (5 : Int32)) hx hb dX7_adds_53 (by decide) ?_
  refine lv_iload hx hb dX7_adds_54 (lv_at hl 7 rfl) ?_
  obtain ⟨t56, et56, hf⟩ := obd hf
  refine tcallV (rest := []) hx hb hts hown hE hz hI hml hl.1 (mX7_lays t47 v6 (5 : Int32) a6 _ et56) (cwX7_lays hts ⟨Nat.le_of_ble_eq_true rfl, Nat.le_of_ble_eq_true rfl⟩) ⟨Nat.le_of_ble_eq_true rfl, Nat.le_of_ble_eq_true rfl⟩ rfl rfl (lv_room (Nat.le_of_ble_eq_true rfl)) dX7_adds_56 (fun H locs hI => ?_)
  refine lv_aload_n hx hb dX7_adds_59 rfl (lv_at hl 1 rfl) ?_
  refine lv_iload hx hb dX7_adds_60 (lv_at hl 0 rfl) ?_
  refine lv_bipush (v := (6 : Int32)) hx hb dX7_adds_62 (by decide) ?_
  refine lv_iload hx hb dX7_adds_64 (lv_at hl 8 rfl) ?_
  obtain ⟨t66, et66, hf⟩ := obd hf
  refine tcallV (rest := []) hx hb hts hown hE hz hI hml hl.1 (mX7_lays t56 v6 (6 : Int32) a7 _ et66) (cwX7_lays hts ⟨Nat.le_of_ble_eq_true rfl, Nat.le_of_ble_eq_true rfl⟩) ⟨Nat.le_of_ble_eq_true rfl, Nat.le_of_ble_eq_true rfl⟩ rfl rfl (lv_room (Nat.le_of_ble_eq_true rfl)) dX7_adds_66 (fun H locs hI => ?_)
  refine lv_aload_n hx hb dX7_adds_69 rfl (lv_at hl 1 rfl) ?_
  refine lv_iload hx hb dX7_adds_70 (lv_at hl 0 rfl) ?_
  refine lv_bipush (v := (7 : Int32)) hx hb dX7_adds_72 (by decide) ?_
  refine lv_aload_n hx hb dX7_adds_74 rfl (lv_at hl 1 rfl) ?_
  refine tget hx hb hts hown hE hI 1 (by decide) q2101 rfl dX7_adds_75 ?_
  refine lv_bipush (v := (6 : Int32)) hx hb dX7_adds_78 (by decide) ?_
  refine taldc hx hb hE hI 1 781 6 rfl (by decide) (by decide) dX7_adds_80 ?_
  obtain ⟨t81, et81, hf⟩ := obd hf
  refine tcallV (rest := []) hx hb hts hown hE hz hI hml hl.1 (mX7_lays t66 v6 (7 : Int32) (t66 0 6) _ et81) (cwX7_lays hts ⟨Nat.le_of_ble_eq_true rfl, Nat.le_of_ble_eq_true rfl⟩) ⟨Nat.le_of_ble_eq_true rfl, Nat.le_of_ble_eq_true rfl⟩ rfl rfl (lv_room (Nat.le_of_ble_eq_true rfl)) dX7_adds_81 (fun H locs hI => ?_)
  refine lv_aload_n hx hb dX7_adds_84 rfl (lv_at hl 1 rfl) ?_
  refine lv_iload hx hb dX7_adds_85 (lv_at hl 0 rfl) ?_
  refine lv_bipush (v := (8 : Int32)) hx hb dX7_adds_87 (by decide) ?_
  refine lv_iconst (v := (0 : Int32)) hx hb dX7_adds_89 (by decide) ?_
  obtain ⟨t90, et90, hf⟩ := obd hf
  refine tcallV (rest := []) hx hb hts hown hE hz hI hml hl.1 (mX7_lays t81 v6 (8 : Int32) (0 : Int32) _ et90) (cwX7_lays hts ⟨Nat.le_of_ble_eq_true rfl, Nat.le_of_ble_eq_true rfl⟩) ⟨Nat.le_of_ble_eq_true rfl, Nat.le_of_ble_eq_true rfl⟩ rfl rfl (lv_room (Nat.le_of_ble_eq_true rfl)) dX7_adds_90 (fun H locs hI => ?_)
  refine lv_aload_n hx hb dX7_adds_93 rfl (lv_at hl 1 rfl) ?_
  refine lv_iload hx hb dX7_adds_94 (lv_at hl 0 rfl) ?_
  refine lv_bipush (v := (9 : Int32)) hx hb dX7_adds_96 (by decide) ?_
  refine lv_iconst (v := (-1 : Int32)) hx hb dX7_adds_98 (by decide) ?_
  obtain ⟨t99, et99, hf⟩ := obd hf
  refine tcallV (rest := []) hx hb hts hown hE hz hI hml hl.1 (mX7_lays t90 v6 (9 : Int32) (-1 : Int32) _ et99) (cwX7_lays hts ⟨Nat.le_of_ble_eq_true rfl, Nat.le_of_ble_eq_true rfl⟩) ⟨Nat.le_of_ble_eq_true rfl, Nat.le_of_ble_eq_true rfl⟩ rfl rfl (lv_room (Nat.le_of_ble_eq_true rfl)) dX7_adds_99 (fun H locs hI => ?_)
  refine lv_aload_n hx hb dX7_adds_102 rfl (lv_at hl 1 rfl) ?_
  refine lv_iload hx hb dX7_adds_103 (lv_at hl 0 rfl) ?_
  refine lv_bipush (v := (10 : Int32)) hx hb dX7_adds_105 (by decide) ?_
  refine lv_iconst (v := (0 : Int32)) hx hb dX7_adds_107 (by decide) ?_
  obtain ⟨t108, et108, hf⟩ := obd hf
  refine tcallV (rest := []) hx hb hts hown hE hz hI hml hl.1 (mX7_lays t99 v6 (10 : Int32) (0 : Int32) _ et108) (cwX7_lays hts ⟨Nat.le_of_ble_eq_true rfl, Nat.le_of_ble_eq_true rfl⟩) ⟨Nat.le_of_ble_eq_true rfl, Nat.le_of_ble_eq_true rfl⟩ rfl rfl (lv_room (Nat.le_of_ble_eq_true rfl)) dX7_adds_108 (fun H locs hI => ?_)
  refine lv_aload_n hx hb dX7_adds_111 rfl (lv_at hl 1 rfl) ?_
  refine lv_iload hx hb dX7_adds_112 (lv_at hl 0 rfl) ?_
  refine lv_bipush (v := (11 : Int32)) hx hb dX7_adds_114 (by decide) ?_
  refine lv_iconst (v := (0 : Int32)) hx hb dX7_adds_116 (by decide) ?_
  obtain ⟨t117, et117, hf⟩ := obd hf
  refine tcallV (rest := []) hx hb hts hown hE hz hI hml hl.1 (mX7_lays t108 v6 (11 : Int32) (0 : Int32) _ et117) (cwX7_lays hts ⟨Nat.le_of_ble_eq_true rfl, Nat.le_of_ble_eq_true rfl⟩) ⟨Nat.le_of_ble_eq_true rfl, Nat.le_of_ble_eq_true rfl⟩ rfl rfl (lv_room (Nat.le_of_ble_eq_true rfl)) dX7_adds_117 (fun H locs hI => ?_)
  refine lv_aload_n hx hb dX7_adds_120 rfl (lv_at hl 1 rfl) ?_
  refine tget hx hb hts hown hE hI 1 (by decide) q2101 rfl dX7_adds_121 ?_
  refine lv_iconst (v := (5 : Int32)) hx hb dX7_adds_124 (by decide) ?_
  refine lv_dup2_11 hx hb dX7_adds_125 rfl rfl ?_
  refine taldc hx hb hE hI 1 781 5 rfl (by decide) (by decide) dX7_adds_126 ?_
  refine lv_iconst (v := (1 : Int32)) hx hb dX7_adds_127 (by decide) ?_
  refine lv_iadd hx hb dX7_adds_128 ?_
  obtain ⟨t129, et129, hf⟩ := obd hf
  refine tast hx hb hE hI 1 781 0 rfl (fun _ => rfl) et129 dX7_adds_129 (fun H locs hI => ?_)
  exact hret H locs 130 ls ((Option.some.inj hf) ▸ hI) dX7_adds_130
theorem cwX7_adds {R : Room} {s : State} {args : Array Value} {fr lo : Nat} (hts : ∀ w ∈ lw_all, w.before args s = true) (hR : fr + 1 ≤ R.frames ∧ 8 + (9 + 11) + lo ≤ R.locals) : CallW R s args RX7 RX7 143 yX7_adds cX7_adds 9 (none) (ws_ yX7_adds cX7_adds 9 (none)) ({ frames := fr, cells := 0, slots := 0, locals := lo }) 0 0 7 :=
  cwV 7 hts (lw_V q2324 q2326 qs84 q143 q2327) rfl rfl rfl (by decide +kernel) hR

def X7_deedLine_J118 (τ : Mm) (x2 : Int32) (x3 : Int32) (x6 : Int32) : Option (Mm) :=
  (X7_after τ 14 (0 : Int32) (99 : Int32)).bind fun x124 =>
  (X7_maybe x124.2 15 (0 : Int32) (20 : Int32) (0 : Int32)).bind fun x136 =>
  (X7_maybe x136.2 16 (0 : Int32) ((x136.2 0 5) - (1 : Int32)) (-1 : Int32)).bind fun x154 =>
  (X7_maybe x154.2 17 (0 : Int32) ((x154.2 0 5) - (1 : Int32)) (-1 : Int32)).bind fun x172 =>
  if (x172.2 10 12) = (-1 : Int32) then
    (X7_adds x172.2 x2 x3 x6 x124.1 x136.1 x154.1 x172.1).bind fun t198 =>
    some t198
  else
    some x172.2
def X7_deedLine_J96 (τ : Mm) (x2 : Int32) (x3 : Int32) (x5 : Int32) (y0 : Int32) : Option (Mm) :=
  if (τ 10 12) = (-1 : Int32) then
    if y0 = x3 then
      (X7_wrong τ x5).bind fun t115 =>
      X7_deedLine_J118 t115 x2 x3 y0
    else
      X7_deedLine_J118 τ x2 x3 y0
  else
    X7_deedLine_J118 τ x2 x3 y0
def X7_deedLine_J72 (τ : Mm) (x2 : Int32) (x3 : Int32) (x4 : Int32) (y0 : Int32) : Option (Mm) :=
  if x4 = (0 : Int32) then
    X7_deedLine_J96 τ x2 x3 y0 (0 : Int32)
  else
    (X7_figures τ (0 : Int32) ((τ 0 3) - (1 : Int32))).bind fun x89 =>
    X7_deedLine_J96 x89.2 x2 x3 y0 x89.1
def X7_deedLine_J16 (τ : Mm) : Option (Mm) :=
  (X7_after τ 3 (0 : Int32) ((τ 0 4) - (1 : Int32))).bind fun x28 =>
  (X7_after x28.2 12 (0 : Int32) ((x28.2 0 3) - (1 : Int32))).bind fun x44 =>
  (X7_expects x44.2 13).bind fun x51 =>
  if x51.1 = (0 : Int32) then
    X7_deedLine_J72 x51.2 x28.1 x44.1 x51.1 (x51.2 10 11)
  else
    (X7_here x51.2).bind fun x62 =>
    X7_deedLine_J72 x62.2 x28.1 x44.1 x51.1 x62.1
def X7_deedLine (τ : Mm) (a1 : Int32) : Option (Mm) :=
  if (τ 0 5) = (8 : Int32) then
    (X7_wrong τ a1).bind fun t13 =>
    X7_deedLine_J16 t13
  else
    X7_deedLine_J16 τ
set_option maxHeartbeats 4000000 in
theorem mX7_deedLine (τ : Mm) (a1 : Int32) (τ' : Mm) (hf : X7_deedLine τ a1 = some τ') : TMv yX7_deedLine cX7_deedLine 11 none 10 447 (fun aK => [.int a1]) τ τ' := by
  refine TMv.of (by decide) rfl (fun _ _ => Nat.le_of_ble_eq_true rfl) ?_
  intro p l e s m args below meth c D cI cZ o z aK aV Q ls hz hx hb hml hown hts hE hret hI hl
  obtain ⟨H, eH⟩ : ∃ H, H = s.heap := ⟨_, rfl⟩
  obtain ⟨locs, eL⟩ : ∃ L : List Loc, L = [] := ⟨_, rfl⟩
  rw [← eH, ← eL] at hI ⊢
  have hl : lv_has ls 11 [(0, .ref o), (1, .int a1)] := hl
  unfold X7_deedLine at hf
  have hJ118 : ∀ (τ : Mm) (x2 : Int32) (x3 : Int32) (x6 : Int32) (H : Heap) (locs : List Loc) (ls : Array Slot), X7_deedLine_J118 τ x2 x3 x6 = some τ' → IT D cI cZ o s H locs τ → lv_has ls 11 [(0, .ref o), (2, .int x2), (3, .int x3), (6, .int x6)] → W p l e ({ frames := 10, cells := 0, slots := 0, locals := 447 } : Room) s m args below meth c H locs 0 0 Q (F0 m 118 ls []) := by
    intro τ x2 x3 x6 H locs ls hf hI hl
    unfold X7_deedLine_J118 at hf
    refine lv_aload_n hx hb dX7_deedLine_118 rfl (lv_at hl 0 rfl) ?_
    refine va_ldcS hx hb hown (hE.2.at 37 rfl) dX7_deedLine_119 ?_
    refine lv_iconst (v := (0 : Int32)) hx hb dX7_deedLine_121 (by decide) ?_
    refine lv_bipush (v := (99 : Int32)) hx hb dX7_deedLine_122 (by decide) ?_
    obtain ⟨x124, ex124, hf⟩ := obd hf
    refine tcallI (rest := []) hx hb hts hown hE hz hI hml hl.1 (mX7_after τ 14 (0 : Int32) (99 : Int32) (by decide) _ _ ex124) (cwX7_after hts ⟨Nat.le_of_ble_eq_true rfl, Nat.le_of_ble_eq_true rfl⟩) ⟨Nat.le_of_ble_eq_true rfl, Nat.le_of_ble_eq_true rfl⟩ rfl rfl (lv_room (Nat.le_of_ble_eq_true rfl)) dX7_deedLine_124 (fun H locs hI => ?_)
    refine lv_istore (lv' := [(7, .int x124.1), (0, .ref o), (2, .int x2), (3, .int x3), (6, .int x6)]) hx hb dX7_deedLine_127 hl (by decide) rfl (fun ls hl => ?_)
    refine lv_aload_n hx hb dX7_deedLine_129 rfl (lv_at hl 1 rfl) ?_
    refine va_ldcS hx hb hown (hE.2.at 49 rfl) dX7_deedLine_130 ?_
    refine lv_iconst (v := (0 : Int32)) hx hb dX7_deedLine_132 (by decide) ?_
    refine lv_bipush (v := (20 : Int32)) hx hb dX7_deedLine_133 (by decide) ?_
    refine lv_iconst (v := (0 : Int32)) hx hb dX7_deedLine_135 (by decide) ?_
    obtain ⟨x136, ex136, hf⟩ := obd hf
    refine tcallI (rest := []) hx hb hts hown hE hz hI hml hl.1 (mX7_maybe x124.2 15 (0 : Int32) (20 : Int32) (0 : Int32) (by decide) _ _ ex136) (cwX7_maybe hts ⟨Nat.le_of_ble_eq_true rfl, Nat.le_of_ble_eq_true rfl⟩) ⟨Nat.le_of_ble_eq_true rfl, Nat.le_of_ble_eq_true rfl⟩ rfl rfl (lv_room (Nat.le_of_ble_eq_true rfl)) dX7_deedLine_136 (fun H locs hI => ?_)
    refine lv_istore (lv' := [(8, .int x136.1), (7, .int x124.1), (0, .ref o), (2, .int x2), (3, .int x3), (6, .int x6)]) hx hb dX7_deedLine_139 hl (by decide) rfl (fun ls hl => ?_)
    refine lv_aload_n hx hb dX7_deedLine_141 rfl (lv_at hl 2 rfl) ?_
    refine va_ldcS hx hb hown (hE.2.at 50 rfl) dX7_deedLine_142 ?_
    refine lv_iconst (v := (0 : Int32)) hx hb dX7_deedLine_144 (by decide) ?_
    refine lv_aload_n hx hb dX7_deedLine_145 rfl (lv_at hl 2 rfl) ?_
    refine tget hx hb hts hown hE hI 1 (by decide) q2101 rfl dX7_deedLine_146 ?_
    refine lv_iconst (v := (5 : Int32)) hx hb dX7_deedLine_149 (by decide) ?_
    refine taldc hx hb hE hI 1 781 5 rfl (by decide) (by decide) dX7_deedLine_150 ?_
    refine lv_iconst (v := (1 : Int32)) hx hb dX7_deedLine_151 (by decide) ?_
    refine lv_isub hx hb dX7_deedLine_152 ?_
    refine lv_iconst (v := (-1 : Int32)) hx hb dX7_deedLine_153 (by decide) ?_
    obtain ⟨x154, ex154, hf⟩ := obd hf
    refine tcallI (rest := []) hx hb hts hown hE hz hI hml hl.1 (mX7_maybe x136.2 16 (0 : Int32) ((x136.2 0 5) - (1 : Int32)) (-1 : Int32) (by decide) _ _ ex154) (cwX7_maybe hts ⟨Nat.le_of_ble_eq_true rfl, Nat.le_of_ble_eq_true rfl⟩) ⟨Nat.le_of_ble_eq_true rfl, Nat.le_of_ble_eq_true rfl⟩ rfl rfl (lv_room (Nat.le_of_ble_eq_true rfl)) dX7_deedLine_154 (fun H locs hI => ?_)
    refine lv_istore (lv' := [(9, .int x154.1), (8, .int x136.1), (7, .int x124.1), (0, .ref o), (2, .int x2), (3, .int x3), (6, .int x6)]) hx hb dX7_deedLine_157 hl (by decide) rfl (fun ls hl => ?_)
    refine lv_aload_n hx hb dX7_deedLine_159 rfl (lv_at hl 3 rfl) ?_
    refine va_ldcS hx hb hown (hE.2.at 51 rfl) dX7_deedLine_160 ?_
    refine lv_iconst (v := (0 : Int32)) hx hb dX7_deedLine_162 (by decide) ?_
    refine lv_aload_n hx hb dX7_deedLine_163 rfl (lv_at hl 3 rfl) ?_
    refine tget hx hb hts hown hE hI 1 (by decide) q2101 rfl dX7_deedLine_164 ?_
    refine lv_iconst (v := (5 : Int32)) hx hb dX7_deedLine_167 (by decide) ?_
    refine taldc hx hb hE hI 1 781 5 rfl (by decide) (by decide) dX7_deedLine_168 ?_
    refine lv_iconst (v := (1 : Int32)) hx hb dX7_deedLine_169 (by decide) ?_
    refine lv_isub hx hb dX7_deedLine_170 ?_
    refine lv_iconst (v := (-1 : Int32)) hx hb dX7_deedLine_171 (by decide) ?_
    obtain ⟨x172, ex172, hf⟩ := obd hf
    refine tcallI (rest := []) hx hb hts hown hE hz hI hml hl.1 (mX7_maybe x154.2 17 (0 : Int32) ((x154.2 0 5) - (1 : Int32)) (-1 : Int32) (by decide) _ _ ex172) (cwX7_maybe hts ⟨Nat.le_of_ble_eq_true rfl, Nat.le_of_ble_eq_true rfl⟩) ⟨Nat.le_of_ble_eq_true rfl, Nat.le_of_ble_eq_true rfl⟩ rfl rfl (lv_room (Nat.le_of_ble_eq_true rfl)) dX7_deedLine_172 (fun H locs hI => ?_)
    refine lv_istore (lv' := [(10, .int x172.1), (9, .int x154.1), (8, .int x136.1), (7, .int x124.1), (0, .ref o), (2, .int x2), (3, .int x3), (6, .int x6)]) hx hb dX7_deedLine_175 hl (by decide) rfl (fun ls hl => ?_)
    refine lv_aload_n hx hb dX7_deedLine_177 rfl (lv_at hl 4 rfl) ?_
    refine tget hx hb hts hown hE hI 12 (by decide) q2112 rfl dX7_deedLine_178 ?_
    refine lv_iconst (v := (-1 : Int32)) hx hb dX7_deedLine_181 (by decide) ?_
    refine lv_icmp_ne (tgt := 201) hx hb dX7_deedLine_182 (by decide) (fun hc => ?_) (fun hc => ?_)
    · replace hf := ineg hc hf
      exact hret H locs 201 ls ((Option.some.inj hf) ▸ hI) dX7_deedLine_201
    · replace hf := ipos hc hf
      refine lv_aload_n hx hb dX7_deedLine_185 rfl (lv_at hl 4 rfl) ?_
      refine lv_iload_n hx hb dX7_deedLine_186 rfl (lv_at hl 5 rfl) ?_
      refine lv_iload_n hx hb dX7_deedLine_187 rfl (lv_at hl 6 rfl) ?_
      refine lv_iload hx hb dX7_deedLine_188 (lv_at hl 7 rfl) ?_
      refine lv_iload hx hb dX7_deedLine_190 (lv_at hl 3 rfl) ?_
      refine lv_iload hx hb dX7_deedLine_192 (lv_at hl 2 rfl) ?_
      refine lv_iload hx hb dX7_deedLine_194 (lv_at hl 1 rfl) ?_
      refine lv_iload hx hb dX7_deedLine_196 (lv_at hl 0 rfl) ?_
      obtain ⟨t198, et198, hf⟩ := obd hf
      refine tcallV (rest := []) hx hb hts hown hE hz hI hml hl.1 (mX7_adds x172.2 x2 x3 x6 x124.1 x136.1 x154.1 x172.1 _ et198) (cwX7_adds hts ⟨Nat.le_of_ble_eq_true rfl, Nat.le_of_ble_eq_true rfl⟩) ⟨Nat.le_of_ble_eq_true rfl, Nat.le_of_ble_eq_true rfl⟩ rfl rfl (lv_room (Nat.le_of_ble_eq_true rfl)) dX7_deedLine_198 (fun H locs hI => ?_)
      exact hret H locs 201 ls ((Option.some.inj hf) ▸ hI) dX7_deedLine_201
  have hJ96 : ∀ (τ : Mm) (x2 : Int32) (x3 : Int32) (x5 : Int32) (y0 : Int32) (H : Heap) (locs : List Loc) (ls : Array Slot), X7_deedLine_J96 τ x2 x3 x5 y0 = some τ' → IT D cI cZ o s H locs τ → lv_has ls 11 [(0, .ref o), (2, .int x2), (3, .int x3), (5, .int x5)] → W p l e ({ frames := 10, cells := 0, slots := 0, locals := 447 } : Room) s m args below meth c H locs 0 0 Q (F0 m 96 ls [.int y0]) := by
    intro τ x2 x3 x5 y0 H locs ls hf hI hl
    unfold X7_deedLine_J96 at hf
    refine lv_istore (lv' := [(6, .int y0), (0, .ref o), (2, .int x2), (3, .int x3), (5, .int x5)]) hx hb dX7_deedLine_96 hl (by decide) rfl (fun ls hl => ?_)
    refine lv_aload_n hx hb dX7_deedLine_98 rfl (lv_at hl 1 rfl) ?_
    refine tget hx hb hts hown hE hI 12 (by decide) q2112 rfl dX7_deedLine_99 ?_
    refine lv_iconst (v := (-1 : Int32)) hx hb dX7_deedLine_102 (by decide) ?_
    refine lv_icmp_ne (tgt := 118) hx hb dX7_deedLine_103 (by decide) (fun hc => ?_) (fun hc => ?_)
    · replace hf := ineg hc hf
      exact hJ118 τ x2 x3 y0 H locs ls hf hI  (lv_sub hl [1, 2, 3, 0] rfl)
    · replace hf := ipos hc hf
      refine lv_iload hx hb dX7_deedLine_106 (lv_at hl 0 rfl) ?_
      refine lv_iload_n hx hb dX7_deedLine_108 rfl (lv_at hl 3 rfl) ?_
      refine lv_icmp_ne (tgt := 118) hx hb dX7_deedLine_109 (by decide) (fun hc => ?_) (fun hc => ?_)
      · replace hf := ineg hc hf
        exact hJ118 τ x2 x3 y0 H locs ls hf hI  (lv_sub hl [1, 2, 3, 0] rfl)
      · replace hf := ipos hc hf
        refine lv_aload_n hx hb dX7_deedLine_112 rfl (lv_at hl 1 rfl) ?_
        refine lv_iload hx hb dX7_deedLine_113 (lv_at hl 4 rfl) ?_
        obtain ⟨t115, et115, hf⟩ := obd hf
        refine tcallV (rest := []) hx hb hts hown hE hz hI hml hl.1 (mX7_wrong τ x5 _ et115) (cwX7_wrong hts ⟨Nat.le_of_ble_eq_true rfl, Nat.le_of_ble_eq_true rfl⟩) ⟨Nat.le_of_ble_eq_true rfl, Nat.le_of_ble_eq_true rfl⟩ rfl rfl (lv_room (Nat.le_of_ble_eq_true rfl)) dX7_deedLine_115 (fun H locs hI => ?_)
        exact hJ118 t115 x2 x3 y0 H locs ls hf hI  (lv_sub hl [1, 2, 3, 0] rfl)
  have hJ72 : ∀ (τ : Mm) (x2 : Int32) (x3 : Int32) (x4 : Int32) (y0 : Int32) (H : Heap) (locs : List Loc) (ls : Array Slot), X7_deedLine_J72 τ x2 x3 x4 y0 = some τ' → IT D cI cZ o s H locs τ → lv_has ls 11 [(0, .ref o), (2, .int x2), (3, .int x3), (4, .int x4)] → W p l e ({ frames := 10, cells := 0, slots := 0, locals := 447 } : Room) s m args below meth c H locs 0 0 Q (F0 m 72 ls [.int y0]) := by
    intro τ x2 x3 x4 y0 H locs ls hf hI hl
    unfold X7_deedLine_J72 at hf
    refine lv_istore (lv' := [(5, .int y0), (0, .ref o), (2, .int x2), (3, .int x3), (4, .int x4)]) hx hb dX7_deedLine_72 hl (by decide) rfl (fun ls hl => ?_)
    refine lv_iload hx hb dX7_deedLine_74 (lv_at hl 4 rfl) ?_
    refine lv_if_eq (tgt := 95) hx hb dX7_deedLine_76 (by decide) (fun hc => ?_) (fun hc => ?_)
    · replace hf := ipos hc hf
      refine lv_iconst (v := (0 : Int32)) hx hb dX7_deedLine_95 (by decide) ?_
      exact hJ96 τ x2 x3 y0 (0 : Int32) H locs ls hf hI  (lv_sub hl [1, 2, 3, 0] rfl)
    · replace hf := ineg hc hf
      refine lv_aload_n hx hb dX7_deedLine_79 rfl (lv_at hl 1 rfl) ?_
      refine lv_iconst (v := (0 : Int32)) hx hb dX7_deedLine_80 (by decide) ?_
      refine lv_aload_n hx hb dX7_deedLine_81 rfl (lv_at hl 1 rfl) ?_
      refine tget hx hb hts hown hE hI 1 (by decide) q2101 rfl dX7_deedLine_82 ?_
      refine lv_iconst (v := (3 : Int32)) hx hb dX7_deedLine_85 (by decide) ?_
      refine taldc hx hb hE hI 1 781 3 rfl (by decide) (by decide) dX7_deedLine_86 ?_
      refine lv_iconst (v := (1 : Int32)) hx hb dX7_deedLine_87 (by decide) ?_
      refine lv_isub hx hb dX7_deedLine_88 ?_
      obtain ⟨x89, ex89, hf⟩ := obd hf
      refine tcallI (rest := []) hx hb hts hown hE hz hI hml hl.1 (mX7_figures τ (0 : Int32) ((τ 0 3) - (1 : Int32)) _ _ ex89) (cwX7_figures hts ⟨Nat.le_of_ble_eq_true rfl, Nat.le_of_ble_eq_true rfl⟩) ⟨Nat.le_of_ble_eq_true rfl, Nat.le_of_ble_eq_true rfl⟩ rfl rfl (lv_room (Nat.le_of_ble_eq_true rfl)) dX7_deedLine_89 (fun H locs hI => ?_)
      refine lv_goto (tgt := 96) hx hb dX7_deedLine_92 (by decide) ?_
      exact hJ96 x89.2 x2 x3 y0 x89.1 H locs ls hf hI  (lv_sub hl [1, 2, 3, 0] rfl)
  have hJ16 : ∀ (τ : Mm) (H : Heap) (locs : List Loc) (ls : Array Slot), X7_deedLine_J16 τ = some τ' → IT D cI cZ o s H locs τ → lv_has ls 11 [(0, .ref o)] → W p l e ({ frames := 10, cells := 0, slots := 0, locals := 447 } : Room) s m args below meth c H locs 0 0 Q (F0 m 16 ls []) := by
    intro τ  H locs ls hf hI hl
    unfold X7_deedLine_J16 at hf
    refine lv_aload_n hx hb dX7_deedLine_16 rfl (lv_at hl 0 rfl) ?_
    refine va_ldcS hx hb hown (hE.2.at 36 rfl) dX7_deedLine_17 ?_
    refine lv_iconst (v := (0 : Int32)) hx hb dX7_deedLine_19 (by decide) ?_
    refine lv_aload_n hx hb dX7_deedLine_20 rfl (lv_at hl 0 rfl) ?_
    refine tget hx hb hts hown hE hI 1 (by decide) q2101 rfl dX7_deedLine_21 ?_
    refine lv_iconst (v := (4 : Int32)) hx hb dX7_deedLine_24 (by decide) ?_
    refine taldc hx hb hE hI 1 781 4 rfl (by decide) (by decide) dX7_deedLine_25 ?_
    refine lv_iconst (v := (1 : Int32)) hx hb dX7_deedLine_26 (by decide) ?_
    refine lv_isub hx hb dX7_deedLine_27 ?_
    obtain ⟨x28, ex28, hf⟩ := obd hf
    refine tcallI (rest := []) hx hb hts hown hE hz hI hml hl.1 (mX7_after τ 3 (0 : Int32) ((τ 0 4) - (1 : Int32)) (by decide) _ _ ex28) (cwX7_after hts ⟨Nat.le_of_ble_eq_true rfl, Nat.le_of_ble_eq_true rfl⟩) ⟨Nat.le_of_ble_eq_true rfl, Nat.le_of_ble_eq_true rfl⟩ rfl rfl (lv_room (Nat.le_of_ble_eq_true rfl)) dX7_deedLine_28 (fun H locs hI => ?_)
    refine lv_istore_n (lv' := [(2, .int x28.1), (0, .ref o)]) hx hb dX7_deedLine_31 rfl hl (by decide) rfl (fun ls hl => ?_)
    refine lv_aload_n hx hb dX7_deedLine_32 rfl (lv_at hl 1 rfl) ?_
    refine va_ldcS hx hb hown (hE.2.at 47 rfl) dX7_deedLine_33 ?_
    refine lv_iconst (v := (0 : Int32)) hx hb dX7_deedLine_35 (by decide) ?_
    refine lv_aload_n hx hb dX7_deedLine_36 rfl (lv_at hl 1 rfl) ?_
    refine tget hx hb hts hown hE hI 1 (by decide) q2101 rfl dX7_deedLine_37 ?_
    refine lv_iconst (v := (3 : Int32)) hx hb dX7_deedLine_40 (by decide) ?_
    refine taldc hx hb hE hI 1 781 3 rfl (by decide) (by decide) dX7_deedLine_41 ?_
    refine lv_iconst (v := (1 : Int32)) hx hb dX7_deedLine_42 (by decide) ?_
    refine lv_isub hx hb dX7_deedLine_43 ?_
    obtain ⟨x44, ex44, hf⟩ := obd hf
    refine tcallI (rest := []) hx hb hts hown hE hz hI hml hl.1 (mX7_after x28.2 12 (0 : Int32) ((x28.2 0 3) - (1 : Int32)) (by decide) _ _ ex44) (cwX7_after hts ⟨Nat.le_of_ble_eq_true rfl, Nat.le_of_ble_eq_true rfl⟩) ⟨Nat.le_of_ble_eq_true rfl, Nat.le_of_ble_eq_true rfl⟩ rfl rfl (lv_room (Nat.le_of_ble_eq_true rfl)) dX7_deedLine_44 (fun H locs hI => ?_)
    refine lv_istore_n (lv' := [(3, .int x44.1), (2, .int x28.1), (0, .ref o)]) hx hb dX7_deedLine_47 rfl hl (by decide) rfl (fun ls hl => ?_)
    refine lv_aload_n hx hb dX7_deedLine_48 rfl (lv_at hl 2 rfl) ?_
    refine va_ldcS hx hb hown (hE.2.at 48 rfl) dX7_deedLine_49 ?_
    obtain ⟨x51, ex51, hf⟩ := obd hf
    refine tcallI (rest := []) hx hb hts hown hE hz hI hml hl.1 (mX7_expects x44.2 13 (by decide) _ _ ex51) (cwX7_expects hts ⟨Nat.le_of_ble_eq_true rfl, Nat.le_of_ble_eq_true rfl⟩) ⟨Nat.le_of_ble_eq_true rfl, Nat.le_of_ble_eq_true rfl⟩ rfl rfl (lv_room (Nat.le_of_ble_eq_true rfl)) dX7_deedLine_51 (fun H locs hI => ?_)
    refine lv_istore (lv' := [(4, .int x51.1), (3, .int x44.1), (2, .int x28.1), (0, .ref o)]) hx hb dX7_deedLine_54 hl (by decide) rfl (fun ls hl => ?_)
    refine lv_iload hx hb dX7_deedLine_56 (lv_at hl 0 rfl) ?_
    refine lv_if_eq (tgt := 68) hx hb dX7_deedLine_58 (by decide) (fun hc => ?_) (fun hc => ?_)
    · replace hf := ipos hc hf
      refine lv_aload_n hx hb dX7_deedLine_68 rfl (lv_at hl 3 rfl) ?_
      refine tget hx hb hts hown hE hI 11 (by decide) q2111 rfl dX7_deedLine_69 ?_
      exact hJ72 x51.2 x28.1 x44.1 x51.1 (x51.2 10 11) H locs ls hf hI  (lv_sub hl [3, 2, 1, 0] rfl)
    · replace hf := ineg hc hf
      refine lv_aload_n hx hb dX7_deedLine_61 rfl (lv_at hl 3 rfl) ?_
      obtain ⟨x62, ex62, hf⟩ := obd hf
      refine tcallI (rest := []) hx hb hts hown hE hz hI hml hl.1 (mX7_here x51.2 _ _ ex62) (cwX7_here hts ⟨Nat.le_of_ble_eq_true rfl, Nat.le_of_ble_eq_true rfl⟩) ⟨Nat.le_of_ble_eq_true rfl, Nat.le_of_ble_eq_true rfl⟩ rfl rfl (lv_room (Nat.le_of_ble_eq_true rfl)) dX7_deedLine_62 (fun H locs hI => ?_)
      refine lv_goto (tgt := 72) hx hb dX7_deedLine_65 (by decide) ?_
      exact hJ72 x62.2 x28.1 x44.1 x51.1 x62.1 H locs ls hf hI  (lv_sub hl [3, 2, 1, 0] rfl)
  refine lv_aload_n hx hb dX7_deedLine_0 rfl (lv_at hl 0 rfl) ?_
  refine tget hx hb hts hown hE hI 1 (by decide) q2101 rfl dX7_deedLine_1 ?_
  refine lv_iconst (v := (5 : Int32)) hx hb dX7_deedLine_4 (by decide) ?_
  refine taldc hx hb hE hI 1 781 5 rfl (by decide) (by decide) dX7_deedLine_5 ?_
  refine lv_bipush (v := (8 : Int32)) hx hb dX7_deedLine_6 (by decide) ?_
  refine lv_icmp_ne (tgt := 16) hx hb dX7_deedLine_8 (by decide) (fun hc => ?_) (fun hc => ?_)
  · replace hf := ineg hc hf
    exact hJ16 τ H locs ls hf hI  (lv_sub hl [0] rfl)
  · replace hf := ipos hc hf
    refine lv_aload_n hx hb dX7_deedLine_11 rfl (lv_at hl 0 rfl) ?_
    refine lv_iload_n hx hb dX7_deedLine_12 rfl (lv_at hl 1 rfl) ?_
    obtain ⟨t13, et13, hf⟩ := obd hf
    refine tcallV (rest := []) hx hb hts hown hE hz hI hml hl.1 (mX7_wrong τ a1 _ et13) (cwX7_wrong hts ⟨Nat.le_of_ble_eq_true rfl, Nat.le_of_ble_eq_true rfl⟩) ⟨Nat.le_of_ble_eq_true rfl, Nat.le_of_ble_eq_true rfl⟩ rfl rfl (lv_room (Nat.le_of_ble_eq_true rfl)) dX7_deedLine_13 (fun H locs hI => ?_)
    exact hJ16 t13 H locs ls hf hI  (lv_sub hl [0] rfl)
theorem cwX7_deedLine {R : Room} {s : State} {args : Array Value} {fr lo : Nat} (hts : ∀ w ∈ lw_all, w.before args s = true) (hR : fr + 1 ≤ R.frames ∧ 8 + (11 + 11) + lo ≤ R.locals) : CallW R s args RX7 RX7 169 yX7_deedLine cX7_deedLine 11 (none) (ws_ yX7_deedLine cX7_deedLine 11 (none)) ({ frames := fr, cells := 0, slots := 0, locals := lo }) 0 0 1 :=
  cwV 1 hts (lw_V q2311 q2313 qs82 q143 q2314) rfl rfl rfl (by decide +kernel) hR

def X7_dampLine_J67 (τ : Mm) (x1 : Int32) : Option (Mm) :=
  (X7_figures τ (0 : Int32) (9 : Int32)).bind fun x71 =>
  if (x71.2 10 12) = (-1 : Int32) then
    (sto 781 x71.2 0 ((11 : Int32) + x1) x71.1).bind fun t92 =>
    some t92
  else
    some x71.2
def X7_dampLine_J53 (τ : Mm) (y0 : Int32) : Option (Mm) :=
  if y0 = (-1 : Int32) then
    (X7_here τ).bind fun x61 =>
    (X7_wrong x61.2 x61.1).bind fun t64 =>
    X7_dampLine_J67 t64 y0
  else
    X7_dampLine_J67 τ y0
def X7_dampLine (τ : Mm) : Option (Mm) :=
  (X7_has τ 18).bind fun x3 =>
  if x3.1 = (0 : Int32) then
    (X7_has x3.2 19).bind fun x16 =>
    if x16.1 = (0 : Int32) then
      (X7_has x16.2 20).bind fun x29 =>
      if x29.1 = (0 : Int32) then
        (X7_has x29.2 21).bind fun x42 =>
        if x42.1 = (0 : Int32) then
          X7_dampLine_J53 x42.2 (-1 : Int32)
        else
          X7_dampLine_J53 x42.2 (3 : Int32)
      else
        X7_dampLine_J53 x29.2 (2 : Int32)
    else
      X7_dampLine_J53 x16.2 (1 : Int32)
  else
    X7_dampLine_J53 x3.2 (0 : Int32)
set_option maxHeartbeats 4000000 in
theorem mX7_dampLine (τ : Mm) (τ' : Mm) (hf : X7_dampLine τ = some τ') : TMv yX7_dampLine cX7_dampLine 3 none 9 423 (fun aK => []) τ τ' := by
  refine TMv.of (by decide) rfl (fun _ _ => Nat.le_of_ble_eq_true rfl) ?_
  intro p l e s m args below meth c D cI cZ o z aK aV Q ls hz hx hb hml hown hts hE hret hI hl
  obtain ⟨H, eH⟩ : ∃ H, H = s.heap := ⟨_, rfl⟩
  obtain ⟨locs, eL⟩ : ∃ L : List Loc, L = [] := ⟨_, rfl⟩
  rw [← eH, ← eL] at hI ⊢
  have hl : lv_has ls 3 [(0, .ref o)] := hl
  unfold X7_dampLine at hf
  have hJ67 : ∀ (τ : Mm) (x1 : Int32) (H : Heap) (locs : List Loc) (ls : Array Slot), X7_dampLine_J67 τ x1 = some τ' → IT D cI cZ o s H locs τ → lv_has ls 3 [(0, .ref o), (1, .int x1)] → W p l e ({ frames := 9, cells := 0, slots := 0, locals := 423 } : Room) s m args below meth c H locs 0 0 Q (F0 m 67 ls []) := by
    intro τ x1 H locs ls hf hI hl
    unfold X7_dampLine_J67 at hf
    refine lv_aload_n hx hb dX7_dampLine_67 rfl (lv_at hl 0 rfl) ?_
    refine lv_iconst (v := (0 : Int32)) hx hb dX7_dampLine_68 (by decide) ?_
    refine lv_bipush (v := (9 : Int32)) hx hb dX7_dampLine_69 (by decide) ?_
    obtain ⟨x71, ex71, hf⟩ := obd hf
    refine tcallI (rest := []) hx hb hts hown hE hz hI hml hl.1 (mX7_figures τ (0 : Int32) (9 : Int32) _ _ ex71) (cwX7_figures hts ⟨Nat.le_of_ble_eq_true rfl, Nat.le_of_ble_eq_true rfl⟩) ⟨Nat.le_of_ble_eq_true rfl, Nat.le_of_ble_eq_true rfl⟩ rfl rfl (lv_room (Nat.le_of_ble_eq_true rfl)) dX7_dampLine_71 (fun H locs hI => ?_)
    refine lv_istore_n (lv' := [(2, .int x71.1), (0, .ref o), (1, .int x1)]) hx hb dX7_dampLine_74 rfl hl (by decide) rfl (fun ls hl => ?_)
    refine lv_aload_n hx hb dX7_dampLine_75 rfl (lv_at hl 1 rfl) ?_
    refine tget hx hb hts hown hE hI 12 (by decide) q2112 rfl dX7_dampLine_76 ?_
    refine lv_iconst (v := (-1 : Int32)) hx hb dX7_dampLine_79 (by decide) ?_
    refine lv_icmp_ne (tgt := 93) hx hb dX7_dampLine_80 (by decide) (fun hc => ?_) (fun hc => ?_)
    · replace hf := ineg hc hf
      exact hret H locs 93 ls ((Option.some.inj hf) ▸ hI) dX7_dampLine_93
    · replace hf := ipos hc hf
      refine lv_aload_n hx hb dX7_dampLine_83 rfl (lv_at hl 1 rfl) ?_
      refine tget hx hb hts hown hE hI 1 (by decide) q2101 rfl dX7_dampLine_84 ?_
      refine lv_bipush (v := (11 : Int32)) hx hb dX7_dampLine_87 (by decide) ?_
      refine lv_iload_n hx hb dX7_dampLine_89 rfl (lv_at hl 2 rfl) ?_
      refine lv_iadd hx hb dX7_dampLine_90 ?_
      refine lv_iload_n hx hb dX7_dampLine_91 rfl (lv_at hl 0 rfl) ?_
      obtain ⟨t92, et92, hf⟩ := obd hf
      refine tast hx hb hE hI 1 781 0 rfl (fun _ => rfl) et92 dX7_dampLine_92 (fun H locs hI => ?_)
      exact hret H locs 93 ls ((Option.some.inj hf) ▸ hI) dX7_dampLine_93
  have hJ53 : ∀ (τ : Mm) (y0 : Int32) (H : Heap) (locs : List Loc) (ls : Array Slot), X7_dampLine_J53 τ y0 = some τ' → IT D cI cZ o s H locs τ → lv_has ls 3 [(0, .ref o)] → W p l e ({ frames := 9, cells := 0, slots := 0, locals := 423 } : Room) s m args below meth c H locs 0 0 Q (F0 m 53 ls [.int y0]) := by
    intro τ y0 H locs ls hf hI hl
    unfold X7_dampLine_J53 at hf
    refine lv_istore_n (lv' := [(1, .int y0), (0, .ref o)]) hx hb dX7_dampLine_53 rfl hl (by decide) rfl (fun ls hl => ?_)
    refine lv_iload_n hx hb dX7_dampLine_54 rfl (lv_at hl 0 rfl) ?_
    refine lv_iconst (v := (-1 : Int32)) hx hb dX7_dampLine_55 (by decide) ?_
    refine lv_icmp_ne (tgt := 67) hx hb dX7_dampLine_56 (by decide) (fun hc => ?_) (fun hc => ?_)
    · replace hf := ineg hc hf
      exact hJ67 τ y0 H locs ls hf hI  (lv_sub hl [1, 0] rfl)
    · replace hf := ipos hc hf
      refine lv_aload_n hx hb dX7_dampLine_59 rfl (lv_at hl 1 rfl) ?_
      refine lv_aload_n hx hb dX7_dampLine_60 rfl (lv_at hl 1 rfl) ?_
      obtain ⟨x61, ex61, hf⟩ := obd hf
      refine tcallI (rest := [.ref o]) hx hb hts hown hE hz hI hml hl.1 (mX7_here τ _ _ ex61) (cwX7_here hts ⟨Nat.le_of_ble_eq_true rfl, Nat.le_of_ble_eq_true rfl⟩) ⟨Nat.le_of_ble_eq_true rfl, Nat.le_of_ble_eq_true rfl⟩ rfl rfl (lv_room (Nat.le_of_ble_eq_true rfl)) dX7_dampLine_61 (fun H locs hI => ?_)
      obtain ⟨t64, et64, hf⟩ := obd hf
      refine tcallV (rest := []) hx hb hts hown hE hz hI hml hl.1 (mX7_wrong x61.2 x61.1 _ et64) (cwX7_wrong hts ⟨Nat.le_of_ble_eq_true rfl, Nat.le_of_ble_eq_true rfl⟩) ⟨Nat.le_of_ble_eq_true rfl, Nat.le_of_ble_eq_true rfl⟩ rfl rfl (lv_room (Nat.le_of_ble_eq_true rfl)) dX7_dampLine_64 (fun H locs hI => ?_)
      exact hJ67 t64 y0 H locs ls hf hI  (lv_sub hl [1, 0] rfl)
  refine lv_aload_n hx hb dX7_dampLine_0 rfl (lv_at hl 0 rfl) ?_
  refine va_ldcS hx hb hown (hE.2.at 52 rfl) dX7_dampLine_1 ?_
  obtain ⟨x3, ex3, hf⟩ := obd hf
  refine tcallI (rest := []) hx hb hts hown hE hz hI hml hl.1 (mX7_has τ 18 (by decide) _ _ ex3) (cwX7_has hts ⟨Nat.le_of_ble_eq_true rfl, Nat.le_of_ble_eq_true rfl⟩) ⟨Nat.le_of_ble_eq_true rfl, Nat.le_of_ble_eq_true rfl⟩ rfl rfl (lv_room (Nat.le_of_ble_eq_true rfl)) dX7_dampLine_3 (fun H locs hI => ?_)
  refine lv_if_eq (tgt := 13) hx hb dX7_dampLine_6 (by decide) (fun hc => ?_) (fun hc => ?_)
  · replace hf := ipos hc hf
    refine lv_aload_n hx hb dX7_dampLine_13 rfl (lv_at hl 0 rfl) ?_
    refine va_ldcS hx hb hown (hE.2.at 53 rfl) dX7_dampLine_14 ?_
    obtain ⟨x16, ex16, hf⟩ := obd hf
    refine tcallI (rest := []) hx hb hts hown hE hz hI hml hl.1 (mX7_has x3.2 19 (by decide) _ _ ex16) (cwX7_has hts ⟨Nat.le_of_ble_eq_true rfl, Nat.le_of_ble_eq_true rfl⟩) ⟨Nat.le_of_ble_eq_true rfl, Nat.le_of_ble_eq_true rfl⟩ rfl rfl (lv_room (Nat.le_of_ble_eq_true rfl)) dX7_dampLine_16 (fun H locs hI => ?_)
    refine lv_if_eq (tgt := 26) hx hb dX7_dampLine_19 (by decide) (fun hc => ?_) (fun hc => ?_)
    · replace hf := ipos hc hf
      refine lv_aload_n hx hb dX7_dampLine_26 rfl (lv_at hl 0 rfl) ?_
      refine va_ldcS hx hb hown (hE.2.at 54 rfl) dX7_dampLine_27 ?_
      obtain ⟨x29, ex29, hf⟩ := obd hf
      refine tcallI (rest := []) hx hb hts hown hE hz hI hml hl.1 (mX7_has x16.2 20 (by decide) _ _ ex29) (cwX7_has hts ⟨Nat.le_of_ble_eq_true rfl, Nat.le_of_ble_eq_true rfl⟩) ⟨Nat.le_of_ble_eq_true rfl, Nat.le_of_ble_eq_true rfl⟩ rfl rfl (lv_room (Nat.le_of_ble_eq_true rfl)) dX7_dampLine_29 (fun H locs hI => ?_)
      refine lv_if_eq (tgt := 39) hx hb dX7_dampLine_32 (by decide) (fun hc => ?_) (fun hc => ?_)
      · replace hf := ipos hc hf
        refine lv_aload_n hx hb dX7_dampLine_39 rfl (lv_at hl 0 rfl) ?_
        refine va_ldcS hx hb hown (hE.2.at 55 rfl) dX7_dampLine_40 ?_
        obtain ⟨x42, ex42, hf⟩ := obd hf
        refine tcallI (rest := []) hx hb hts hown hE hz hI hml hl.1 (mX7_has x29.2 21 (by decide) _ _ ex42) (cwX7_has hts ⟨Nat.le_of_ble_eq_true rfl, Nat.le_of_ble_eq_true rfl⟩) ⟨Nat.le_of_ble_eq_true rfl, Nat.le_of_ble_eq_true rfl⟩ rfl rfl (lv_room (Nat.le_of_ble_eq_true rfl)) dX7_dampLine_42 (fun H locs hI => ?_)
        refine lv_if_eq (tgt := 52) hx hb dX7_dampLine_45 (by decide) (fun hc => ?_) (fun hc => ?_)
        · replace hf := ipos hc hf
          refine lv_iconst (v := (-1 : Int32)) hx hb dX7_dampLine_52 (by decide) ?_
          exact hJ53 x42.2 (-1 : Int32) H locs ls hf hI  (lv_sub hl [0] rfl)
        · replace hf := ineg hc hf
          refine lv_iconst (v := (3 : Int32)) hx hb dX7_dampLine_48 (by decide) ?_
          refine lv_goto (tgt := 53) hx hb dX7_dampLine_49 (by decide) ?_
          exact hJ53 x42.2 (3 : Int32) H locs ls hf hI  (lv_sub hl [0] rfl)
      · replace hf := ineg hc hf
        refine lv_iconst (v := (2 : Int32)) hx hb dX7_dampLine_35 (by decide) ?_
        refine lv_goto (tgt := 53) hx hb dX7_dampLine_36 (by decide) ?_
        exact hJ53 x29.2 (2 : Int32) H locs ls hf hI  (lv_sub hl [0] rfl)
    · replace hf := ineg hc hf
      refine lv_iconst (v := (1 : Int32)) hx hb dX7_dampLine_22 (by decide) ?_
      refine lv_goto (tgt := 53) hx hb dX7_dampLine_23 (by decide) ?_
      exact hJ53 x16.2 (1 : Int32) H locs ls hf hI  (lv_sub hl [0] rfl)
  · replace hf := ineg hc hf
    refine lv_iconst (v := (0 : Int32)) hx hb dX7_dampLine_9 (by decide) ?_
    refine lv_goto (tgt := 53) hx hb dX7_dampLine_10 (by decide) ?_
    exact hJ53 x3.2 (0 : Int32) H locs ls hf hI  (lv_sub hl [0] rfl)
theorem cwX7_dampLine {R : Room} {s : State} {args : Array Value} {fr lo : Nat} (hts : ∀ w ∈ lw_all, w.before args s = true) (hR : fr + 1 ≤ R.frames ∧ 8 + (3 + 11) + lo ≤ R.locals) : CallW R s args RX7 RX7 174 yX7_dampLine cX7_dampLine 3 (none) (ws_ yX7_dampLine cX7_dampLine 3 (none)) ({ frames := fr, cells := 0, slots := 0, locals := lo }) 0 0 0 :=
  cwV 0 hts (lw_V q2332 q2334 qs86 q143 q2335) rfl rfl rfl (by decide +kernel) hR

def X7_tells (τ : Mm) (a1 : Int32) (a2 : Int32) (a3 : Int32) : Option (Mm) :=
  (X7_figures τ a2 a3).bind fun x3 =>
  if (x3.2 10 12) = (-1 : Int32) then
    (sto 781 x3.2 0 a1 x3.1).bind fun t23 =>
    some t23
  else
    some x3.2
set_option maxHeartbeats 4000000 in
theorem mX7_tells (τ : Mm) (a1 : Int32) (a2 : Int32) (a3 : Int32) (τ' : Mm) (hf : X7_tells τ a1 a2 a3 = some τ') : TMv yX7_tells cX7_tells 5 none 5 125 (fun aK => [.int a1, .int a2, .int a3]) τ τ' := by
  refine TMv.of (by decide) rfl (fun _ _ => Nat.le_of_ble_eq_true rfl) ?_
  intro p l e s m args below meth c D cI cZ o z aK aV Q ls hz hx hb hml hown hts hE hret hI hl
  obtain ⟨H, eH⟩ : ∃ H, H = s.heap := ⟨_, rfl⟩
  obtain ⟨locs, eL⟩ : ∃ L : List Loc, L = [] := ⟨_, rfl⟩
  rw [← eH, ← eL] at hI ⊢
  have hl : lv_has ls 5 [(0, .ref o), (1, .int a1), (2, .int a2), (3, .int a3)] := hl
  unfold X7_tells at hf
  refine lv_aload_n hx hb dX7_tells_0 rfl (lv_at hl 0 rfl) ?_
  refine lv_iload_n hx hb dX7_tells_1 rfl (lv_at hl 2 rfl) ?_
  refine lv_iload_n hx hb dX7_tells_2 rfl (lv_at hl 3 rfl) ?_
  obtain ⟨x3, ex3, hf⟩ := obd hf
  refine tcallI (rest := []) hx hb hts hown hE hz hI hml hl.1 (mX7_figures τ a2 a3 _ _ ex3) (cwX7_figures hts ⟨Nat.le_of_ble_eq_true rfl, Nat.le_of_ble_eq_true rfl⟩) ⟨Nat.le_of_ble_eq_true rfl, Nat.le_of_ble_eq_true rfl⟩ rfl rfl (lv_room (Nat.le_of_ble_eq_true rfl)) dX7_tells_3 (fun H locs hI => ?_)
  refine lv_istore (lv' := [(4, .int x3.1), (0, .ref o), (1, .int a1), (2, .int a2), (3, .int a3)]) hx hb dX7_tells_6 hl (by decide) rfl (fun ls hl => ?_)
  refine lv_aload_n hx hb dX7_tells_8 rfl (lv_at hl 1 rfl) ?_
  refine tget hx hb hts hown hE hI 12 (by decide) q2112 rfl dX7_tells_9 ?_
  refine lv_iconst (v := (-1 : Int32)) hx hb dX7_tells_12 (by decide) ?_
  refine lv_icmp_ne (tgt := 24) hx hb dX7_tells_13 (by decide) (fun hc => ?_) (fun hc => ?_)
  · replace hf := ineg hc hf
    exact hret H locs 24 ls ((Option.some.inj hf) ▸ hI) dX7_tells_24
  · replace hf := ipos hc hf
    refine lv_aload_n hx hb dX7_tells_16 rfl (lv_at hl 1 rfl) ?_
    refine tget hx hb hts hown hE hI 1 (by decide) q2101 rfl dX7_tells_17 ?_
    refine lv_iload_n hx hb dX7_tells_20 rfl (lv_at hl 2 rfl) ?_
    refine lv_iload hx hb dX7_tells_21 (lv_at hl 0 rfl) ?_
    obtain ⟨t23, et23, hf⟩ := obd hf
    refine tast hx hb hE hI 1 781 0 rfl (fun _ => rfl) et23 dX7_tells_23 (fun H locs hI => ?_)
    exact hret H locs 24 ls ((Option.some.inj hf) ▸ hI) dX7_tells_24
theorem cwX7_tells {R : Room} {s : State} {args : Array Value} {fr lo : Nat} (hts : ∀ w ∈ lw_all, w.before args s = true) (hR : fr + 1 ≤ R.frames ∧ 8 + (5 + 11) + lo ≤ R.locals) : CallW R s args RX7 RX7 179 yX7_tells cX7_tells 5 (none) (ws_ yX7_tells cX7_tells 5 (none)) ({ frames := fr, cells := 0, slots := 0, locals := lo }) 0 0 3 :=
  cwV 3 hts (lw_V q2340 q2342 qs87 q143 q2343) rfl rfl rfl (by decide +kernel) hR

def X7_portLine (τ : Mm) : Option (Mm) :=
  (X7_here τ).bind fun x1 =>
  (X7_has x1.2 2).bind fun x8 =>
  if x8.1 = (0 : Int32) then
    (X7_has x8.2 3).bind fun x25 =>
    if x25.1 = (0 : Int32) then
      (X7_has x25.2 4).bind fun x42 =>
      if x42.1 = (0 : Int32) then
        (X7_has x42.2 5).bind fun x59 =>
        if x59.1 = (0 : Int32) then
          (X7_has x59.2 6).bind fun x75 =>
          if x75.1 = (0 : Int32) then
            (X7_has x75.2 7).bind fun x96 =>
            if x96.1 = (0 : Int32) then
              (X7_has x96.2 8).bind fun x117 =>
              if x117.1 = (0 : Int32) then
                (X7_wrong x117.2 (x117.2 10 11)).bind fun t155 =>
                some t155
              else
                if (x117.2 0 5) ≤ (0 : Int32) then
                  (X7_tells x117.2 (6 : Int32) (0 : Int32) (999 : Int32)).bind fun t144 =>
                  some t144
                else
                  (X7_wrong x117.2 x1.1).bind fun t134 =>
                  (X7_tells t134 (6 : Int32) (0 : Int32) (999 : Int32)).bind fun t144_16 =>
                  some t144_16
            else
              (X7_tells x96.2 (8 : Int32) (0 : Int32) (100 : Int32)).bind fun t108 =>
              some t108
          else
            (X7_tells x75.2 (7 : Int32) (0 : Int32) (9 : Int32)).bind fun t87 =>
            some t87
        else
          (X7_dampLine x59.2).bind fun t66 =>
          some t66
      else
        (X7_deedLine x42.2 x1.1).bind fun t50 =>
        some t50
    else
      (X7_inkLine x25.2 x1.1).bind fun t33 =>
      some t33
  else
    (X7_partyLine x8.2 x1.1).bind fun t16 =>
    some t16
set_option maxHeartbeats 4000000 in
theorem mX7_portLine (τ : Mm) (τ' : Mm) (hf : X7_portLine τ = some τ') : TMv yX7_portLine cX7_portLine 2 none 11 477 (fun aK => []) τ τ' := by
  refine TMv.of (by decide) rfl (fun _ _ => Nat.le_of_ble_eq_true rfl) ?_
  intro p l e s m args below meth c D cI cZ o z aK aV Q ls hz hx hb hml hown hts hE hret hI hl
  obtain ⟨H, eH⟩ : ∃ H, H = s.heap := ⟨_, rfl⟩
  obtain ⟨locs, eL⟩ : ∃ L : List Loc, L = [] := ⟨_, rfl⟩
  rw [← eH, ← eL] at hI ⊢
  have hl : lv_has ls 2 [(0, .ref o)] := hl
  unfold X7_portLine at hf
  refine lv_aload_n hx hb dX7_portLine_0 rfl (lv_at hl 0 rfl) ?_
  obtain ⟨x1, ex1, hf⟩ := obd hf
  refine tcallI (rest := []) hx hb hts hown hE hz hI hml hl.1 (mX7_here τ _ _ ex1) (cwX7_here hts ⟨Nat.le_of_ble_eq_true rfl, Nat.le_of_ble_eq_true rfl⟩) ⟨Nat.le_of_ble_eq_true rfl, Nat.le_of_ble_eq_true rfl⟩ rfl rfl (lv_room (Nat.le_of_ble_eq_true rfl)) dX7_portLine_1 (fun H locs hI => ?_)
  refine lv_istore_n (lv' := [(1, .int x1.1), (0, .ref o)]) hx hb dX7_portLine_4 rfl hl (by decide) rfl (fun ls hl => ?_)
  refine lv_aload_n hx hb dX7_portLine_5 rfl (lv_at hl 1 rfl) ?_
  refine va_ldcS hx hb hown (hE.2.at 43 rfl) dX7_portLine_6 ?_
  obtain ⟨x8, ex8, hf⟩ := obd hf
  refine tcallI (rest := []) hx hb hts hown hE hz hI hml hl.1 (mX7_has x1.2 2 (by decide) _ _ ex8) (cwX7_has hts ⟨Nat.le_of_ble_eq_true rfl, Nat.le_of_ble_eq_true rfl⟩) ⟨Nat.le_of_ble_eq_true rfl, Nat.le_of_ble_eq_true rfl⟩ rfl rfl (lv_room (Nat.le_of_ble_eq_true rfl)) dX7_portLine_8 (fun H locs hI => ?_)
  refine lv_if_eq (tgt := 22) hx hb dX7_portLine_11 (by decide) (fun hc => ?_) (fun hc => ?_)
  · replace hf := ipos hc hf
    refine lv_aload_n hx hb dX7_portLine_22 rfl (lv_at hl 1 rfl) ?_
    refine va_ldcS hx hb hown (hE.2.at 36 rfl) dX7_portLine_23 ?_
    obtain ⟨x25, ex25, hf⟩ := obd hf
    refine tcallI (rest := []) hx hb hts hown hE hz hI hml hl.1 (mX7_has x8.2 3 (by decide) _ _ ex25) (cwX7_has hts ⟨Nat.le_of_ble_eq_true rfl, Nat.le_of_ble_eq_true rfl⟩) ⟨Nat.le_of_ble_eq_true rfl, Nat.le_of_ble_eq_true rfl⟩ rfl rfl (lv_room (Nat.le_of_ble_eq_true rfl)) dX7_portLine_25 (fun H locs hI => ?_)
    refine lv_if_eq (tgt := 39) hx hb dX7_portLine_28 (by decide) (fun hc => ?_) (fun hc => ?_)
    · replace hf := ipos hc hf
      refine lv_aload_n hx hb dX7_portLine_39 rfl (lv_at hl 1 rfl) ?_
      refine va_ldcS hx hb hown (hE.2.at 35 rfl) dX7_portLine_40 ?_
      obtain ⟨x42, ex42, hf⟩ := obd hf
      refine tcallI (rest := []) hx hb hts hown hE hz hI hml hl.1 (mX7_has x25.2 4 (by decide) _ _ ex42) (cwX7_has hts ⟨Nat.le_of_ble_eq_true rfl, Nat.le_of_ble_eq_true rfl⟩) ⟨Nat.le_of_ble_eq_true rfl, Nat.le_of_ble_eq_true rfl⟩ rfl rfl (lv_room (Nat.le_of_ble_eq_true rfl)) dX7_portLine_42 (fun H locs hI => ?_)
      refine lv_if_eq (tgt := 56) hx hb dX7_portLine_45 (by decide) (fun hc => ?_) (fun hc => ?_)
      · replace hf := ipos hc hf
        refine lv_aload_n hx hb dX7_portLine_56 rfl (lv_at hl 1 rfl) ?_
        refine va_ldcS hx hb hown (hE.2.at 39 rfl) dX7_portLine_57 ?_
        obtain ⟨x59, ex59, hf⟩ := obd hf
        refine tcallI (rest := []) hx hb hts hown hE hz hI hml hl.1 (mX7_has x42.2 5 (by decide) _ _ ex59) (cwX7_has hts ⟨Nat.le_of_ble_eq_true rfl, Nat.le_of_ble_eq_true rfl⟩) ⟨Nat.le_of_ble_eq_true rfl, Nat.le_of_ble_eq_true rfl⟩ rfl rfl (lv_room (Nat.le_of_ble_eq_true rfl)) dX7_portLine_59 (fun H locs hI => ?_)
        refine lv_if_eq (tgt := 72) hx hb dX7_portLine_62 (by decide) (fun hc => ?_) (fun hc => ?_)
        · replace hf := ipos hc hf
          refine lv_aload_n hx hb dX7_portLine_72 rfl (lv_at hl 1 rfl) ?_
          refine va_ldcS hx hb hown (hE.2.at 40 rfl) dX7_portLine_73 ?_
          obtain ⟨x75, ex75, hf⟩ := obd hf
          refine tcallI (rest := []) hx hb hts hown hE hz hI hml hl.1 (mX7_has x59.2 6 (by decide) _ _ ex75) (cwX7_has hts ⟨Nat.le_of_ble_eq_true rfl, Nat.le_of_ble_eq_true rfl⟩) ⟨Nat.le_of_ble_eq_true rfl, Nat.le_of_ble_eq_true rfl⟩ rfl rfl (lv_room (Nat.le_of_ble_eq_true rfl)) dX7_portLine_75 (fun H locs hI => ?_)
          refine lv_if_eq (tgt := 93) hx hb dX7_portLine_78 (by decide) (fun hc => ?_) (fun hc => ?_)
          · replace hf := ipos hc hf
            refine lv_aload_n hx hb dX7_portLine_93 rfl (lv_at hl 1 rfl) ?_
            refine va_ldcS hx hb hown (hE.2.at 56 rfl) dX7_portLine_94 ?_
            obtain ⟨x96, ex96, hf⟩ := obd hf
            refine tcallI (rest := []) hx hb hts hown hE hz hI hml hl.1 (mX7_has x75.2 7 (by decide) _ _ ex96) (cwX7_has hts ⟨Nat.le_of_ble_eq_true rfl, Nat.le_of_ble_eq_true rfl⟩) ⟨Nat.le_of_ble_eq_true rfl, Nat.le_of_ble_eq_true rfl⟩ rfl rfl (lv_room (Nat.le_of_ble_eq_true rfl)) dX7_portLine_96 (fun H locs hI => ?_)
            refine lv_if_eq (tgt := 114) hx hb dX7_portLine_99 (by decide) (fun hc => ?_) (fun hc => ?_)
            · replace hf := ipos hc hf
              refine lv_aload_n hx hb dX7_portLine_114 rfl (lv_at hl 1 rfl) ?_
              refine va_ldcS hx hb hown (hE.2.at 57 rfl) dX7_portLine_115 ?_
              obtain ⟨x117, ex117, hf⟩ := obd hf
              refine tcallI (rest := []) hx hb hts hown hE hz hI hml hl.1 (mX7_has x96.2 8 (by decide) _ _ ex117) (cwX7_has hts ⟨Nat.le_of_ble_eq_true rfl, Nat.le_of_ble_eq_true rfl⟩) ⟨Nat.le_of_ble_eq_true rfl, Nat.le_of_ble_eq_true rfl⟩ rfl rfl (lv_room (Nat.le_of_ble_eq_true rfl)) dX7_portLine_117 (fun H locs hI => ?_)
              refine lv_if_eq (tgt := 150) hx hb dX7_portLine_120 (by decide) (fun hc => ?_) (fun hc => ?_)
              · replace hf := ipos hc hf
                refine lv_aload_n hx hb dX7_portLine_150 rfl (lv_at hl 1 rfl) ?_
                refine lv_aload_n hx hb dX7_portLine_151 rfl (lv_at hl 1 rfl) ?_
                refine tget hx hb hts hown hE hI 11 (by decide) q2111 rfl dX7_portLine_152 ?_
                obtain ⟨t155, et155, hf⟩ := obd hf
                refine tcallV (rest := []) hx hb hts hown hE hz hI hml hl.1 (mX7_wrong x117.2 (x117.2 10 11) _ et155) (cwX7_wrong hts ⟨Nat.le_of_ble_eq_true rfl, Nat.le_of_ble_eq_true rfl⟩) ⟨Nat.le_of_ble_eq_true rfl, Nat.le_of_ble_eq_true rfl⟩ rfl rfl (lv_room (Nat.le_of_ble_eq_true rfl)) dX7_portLine_155 (fun H locs hI => ?_)
                exact hret H locs 158 ls ((Option.some.inj hf) ▸ hI) dX7_portLine_158
              · replace hf := ineg hc hf
                refine lv_aload_n hx hb dX7_portLine_123 rfl (lv_at hl 1 rfl) ?_
                refine tget hx hb hts hown hE hI 1 (by decide) q2101 rfl dX7_portLine_124 ?_
                refine lv_iconst (v := (5 : Int32)) hx hb dX7_portLine_127 (by decide) ?_
                refine taldc hx hb hE hI 1 781 5 rfl (by decide) (by decide) dX7_portLine_128 ?_
                refine lv_if_le (tgt := 137) hx hb dX7_portLine_129 (by decide) (fun hc => ?_) (fun hc => ?_)
                · replace hf := ipos hc hf
                  refine lv_aload_n hx hb dX7_portLine_137 rfl (lv_at hl 1 rfl) ?_
                  refine lv_bipush (v := (6 : Int32)) hx hb dX7_portLine_138 (by decide) ?_
                  refine lv_iconst (v := (0 : Int32)) hx hb dX7_portLine_140 (by decide) ?_
                  refine lv_sipush (v := (999 : Int32)) hx hb dX7_portLine_141 (by decide) ?_
                  obtain ⟨t144, et144, hf⟩ := obd hf
                  refine tcallV (rest := []) hx hb hts hown hE hz hI hml hl.1 (mX7_tells x117.2 (6 : Int32) (0 : Int32) (999 : Int32) _ et144) (cwX7_tells hts ⟨Nat.le_of_ble_eq_true rfl, Nat.le_of_ble_eq_true rfl⟩) ⟨Nat.le_of_ble_eq_true rfl, Nat.le_of_ble_eq_true rfl⟩ rfl rfl (lv_room (Nat.le_of_ble_eq_true rfl)) dX7_portLine_144 (fun H locs hI => ?_)
                  refine lv_goto (tgt := 158) hx hb dX7_portLine_147 (by decide) ?_
                  exact hret H locs 158 ls ((Option.some.inj hf) ▸ hI) dX7_portLine_158
                · replace hf := ineg hc hf
                  refine lv_aload_n hx hb dX7_portLine_132 rfl (lv_at hl 1 rfl) ?_
                  refine lv_iload_n hx hb dX7_portLine_133 rfl (lv_at hl 0 rfl) ?_
                  obtain ⟨t134, et134, hf⟩ := obd hf
                  refine tcallV (rest := []) hx hb hts hown hE hz hI hml hl.1 (mX7_wrong x117.2 x1.1 _ et134) (cwX7_wrong hts ⟨Nat.le_of_ble_eq_true rfl, Nat.le_of_ble_eq_true rfl⟩) ⟨Nat.le_of_ble_eq_true rfl, Nat.le_of_ble_eq_true rfl⟩ rfl rfl (lv_room (Nat.le_of_ble_eq_true rfl)) dX7_portLine_134 (fun H locs hI => ?_)
                  refine lv_aload_n hx hb dX7_portLine_137 rfl (lv_at hl 1 rfl) ?_
                  refine lv_bipush (v := (6 : Int32)) hx hb dX7_portLine_138 (by decide) ?_
                  refine lv_iconst (v := (0 : Int32)) hx hb dX7_portLine_140 (by decide) ?_
                  refine lv_sipush (v := (999 : Int32)) hx hb dX7_portLine_141 (by decide) ?_
                  obtain ⟨t144_16, et144_16, hf⟩ := obd hf
                  refine tcallV (rest := []) hx hb hts hown hE hz hI hml hl.1 (mX7_tells t134 (6 : Int32) (0 : Int32) (999 : Int32) _ et144_16) (cwX7_tells hts ⟨Nat.le_of_ble_eq_true rfl, Nat.le_of_ble_eq_true rfl⟩) ⟨Nat.le_of_ble_eq_true rfl, Nat.le_of_ble_eq_true rfl⟩ rfl rfl (lv_room (Nat.le_of_ble_eq_true rfl)) dX7_portLine_144 (fun H locs hI => ?_)
                  refine lv_goto (tgt := 158) hx hb dX7_portLine_147 (by decide) ?_
                  exact hret H locs 158 ls ((Option.some.inj hf) ▸ hI) dX7_portLine_158
            · replace hf := ineg hc hf
              refine lv_aload_n hx hb dX7_portLine_102 rfl (lv_at hl 1 rfl) ?_
              refine lv_bipush (v := (8 : Int32)) hx hb dX7_portLine_103 (by decide) ?_
              refine lv_iconst (v := (0 : Int32)) hx hb dX7_portLine_105 (by decide) ?_
              refine lv_bipush (v := (100 : Int32)) hx hb dX7_portLine_106 (by decide) ?_
              obtain ⟨t108, et108, hf⟩ := obd hf
              refine tcallV (rest := []) hx hb hts hown hE hz hI hml hl.1 (mX7_tells x96.2 (8 : Int32) (0 : Int32) (100 : Int32) _ et108) (cwX7_tells hts ⟨Nat.le_of_ble_eq_true rfl, Nat.le_of_ble_eq_true rfl⟩) ⟨Nat.le_of_ble_eq_true rfl, Nat.le_of_ble_eq_true rfl⟩ rfl rfl (lv_room (Nat.le_of_ble_eq_true rfl)) dX7_portLine_108 (fun H locs hI => ?_)
              refine lv_goto (tgt := 158) hx hb dX7_portLine_111 (by decide) ?_
              exact hret H locs 158 ls ((Option.some.inj hf) ▸ hI) dX7_portLine_158
          · replace hf := ineg hc hf
            refine lv_aload_n hx hb dX7_portLine_81 rfl (lv_at hl 1 rfl) ?_
            refine lv_bipush (v := (7 : Int32)) hx hb dX7_portLine_82 (by decide) ?_
            refine lv_iconst (v := (0 : Int32)) hx hb dX7_portLine_84 (by decide) ?_
            refine lv_bipush (v := (9 : Int32)) hx hb dX7_portLine_85 (by decide) ?_
            obtain ⟨t87, et87, hf⟩ := obd hf
            refine tcallV (rest := []) hx hb hts hown hE hz hI hml hl.1 (mX7_tells x75.2 (7 : Int32) (0 : Int32) (9 : Int32) _ et87) (cwX7_tells hts ⟨Nat.le_of_ble_eq_true rfl, Nat.le_of_ble_eq_true rfl⟩) ⟨Nat.le_of_ble_eq_true rfl, Nat.le_of_ble_eq_true rfl⟩ rfl rfl (lv_room (Nat.le_of_ble_eq_true rfl)) dX7_portLine_87 (fun H locs hI => ?_)
            refine lv_goto (tgt := 158) hx hb dX7_portLine_90 (by decide) ?_
            exact hret H locs 158 ls ((Option.some.inj hf) ▸ hI) dX7_portLine_158
        · replace hf := ineg hc hf
          refine lv_aload_n hx hb dX7_portLine_65 rfl (lv_at hl 1 rfl) ?_
          obtain ⟨t66, et66, hf⟩ := obd hf
          refine tcallV (rest := []) hx hb hts hown hE hz hI hml hl.1 (mX7_dampLine x59.2 _ et66) (cwX7_dampLine hts ⟨Nat.le_of_ble_eq_true rfl, Nat.le_of_ble_eq_true rfl⟩) ⟨Nat.le_of_ble_eq_true rfl, Nat.le_of_ble_eq_true rfl⟩ rfl rfl (lv_room (Nat.le_of_ble_eq_true rfl)) dX7_portLine_66 (fun H locs hI => ?_)
          refine lv_goto (tgt := 158) hx hb dX7_portLine_69 (by decide) ?_
          exact hret H locs 158 ls ((Option.some.inj hf) ▸ hI) dX7_portLine_158
      · replace hf := ineg hc hf
        refine lv_aload_n hx hb dX7_portLine_48 rfl (lv_at hl 1 rfl) ?_
        refine lv_iload_n hx hb dX7_portLine_49 rfl (lv_at hl 0 rfl) ?_
        obtain ⟨t50, et50, hf⟩ := obd hf
        refine tcallV (rest := []) hx hb hts hown hE hz hI hml hl.1 (mX7_deedLine x42.2 x1.1 _ et50) (cwX7_deedLine hts ⟨Nat.le_of_ble_eq_true rfl, Nat.le_of_ble_eq_true rfl⟩) ⟨Nat.le_of_ble_eq_true rfl, Nat.le_of_ble_eq_true rfl⟩ rfl rfl (lv_room (Nat.le_of_ble_eq_true rfl)) dX7_portLine_50 (fun H locs hI => ?_)
        refine lv_goto (tgt := 158) hx hb dX7_portLine_53 (by decide) ?_
        exact hret H locs 158 ls ((Option.some.inj hf) ▸ hI) dX7_portLine_158
    · replace hf := ineg hc hf
      refine lv_aload_n hx hb dX7_portLine_31 rfl (lv_at hl 1 rfl) ?_
      refine lv_iload_n hx hb dX7_portLine_32 rfl (lv_at hl 0 rfl) ?_
      obtain ⟨t33, et33, hf⟩ := obd hf
      refine tcallV (rest := []) hx hb hts hown hE hz hI hml hl.1 (mX7_inkLine x25.2 x1.1 _ et33) (cwX7_inkLine hts ⟨Nat.le_of_ble_eq_true rfl, Nat.le_of_ble_eq_true rfl⟩) ⟨Nat.le_of_ble_eq_true rfl, Nat.le_of_ble_eq_true rfl⟩ rfl rfl (lv_room (Nat.le_of_ble_eq_true rfl)) dX7_portLine_33 (fun H locs hI => ?_)
      refine lv_goto (tgt := 158) hx hb dX7_portLine_36 (by decide) ?_
      exact hret H locs 158 ls ((Option.some.inj hf) ▸ hI) dX7_portLine_158
  · replace hf := ineg hc hf
    refine lv_aload_n hx hb dX7_portLine_14 rfl (lv_at hl 1 rfl) ?_
    refine lv_iload_n hx hb dX7_portLine_15 rfl (lv_at hl 0 rfl) ?_
    obtain ⟨t16, et16, hf⟩ := obd hf
    refine tcallV (rest := []) hx hb hts hown hE hz hI hml hl.1 (mX7_partyLine x8.2 x1.1 _ et16) (cwX7_partyLine hts ⟨Nat.le_of_ble_eq_true rfl, Nat.le_of_ble_eq_true rfl⟩) ⟨Nat.le_of_ble_eq_true rfl, Nat.le_of_ble_eq_true rfl⟩ rfl rfl (lv_room (Nat.le_of_ble_eq_true rfl)) dX7_portLine_16 (fun H locs hI => ?_)
    refine lv_goto (tgt := 158) hx hb dX7_portLine_19 (by decide) ?_
    exact hret H locs 158 ls ((Option.some.inj hf) ▸ hI) dX7_portLine_158
theorem cwX7_portLine {R : Room} {s : State} {args : Array Value} {fr lo : Nat} (hts : ∀ w ∈ lw_all, w.before args s = true) (hR : fr + 1 ≤ R.frames ∧ 8 + (2 + 11) + lo ≤ R.locals) : CallW R s args RX7 RX7 192 yX7_portLine cX7_portLine 2 (none) (ws_ yX7_portLine cX7_portLine 2 (none)) ({ frames := fr, cells := 0, slots := 0, locals := lo }) 0 0 0 :=
  cwV 0 hts (lw_V q2287 q2289 qs77 q143 q2290) rfl rfl rfl (by decide +kernel) hR

def X7_read_J23_80 (τ : Mm) (c1 : Int32) (x2 : Int32) (x3 : Int32) : Option ((Mm × Int32 × Int32) ⊕ (Mm × Int32)) :=
  (some (x3 + (1 : Int32))).bind fun v80 =>
  (X7_skip τ).bind fun t84 =>
  if (t84 10 12) = (-1 : Int32) then
    if (t84 10 11) = (t84 10 10) then
      some (.inl (t84, (0 : Int32), v80))
    else
      (X7_isSign t84 (59 : Int32)).bind fun x114 =>
      if x114.1 = (0 : Int32) then
        (X7_wrong x114.2 (x114.2 10 11)).bind fun t138 =>
        some (.inl (t138, x2, v80))
      else
        (some (mup x114.2 10 11 ((x114.2 10 11) + (1 : Int32)))).bind fun t127 =>
        some (.inl (t127, x2, v80))
  else
    some (.inl (t84, (0 : Int32), v80))
def X7_read_J23_51 (τ : Mm) (c1 : Int32) (x2 : Int32) (x3 : Int32) (y0 : Int32) (y1 : Int32) : Option ((Mm × Int32 × Int32) ⊕ (Mm × Int32)) :=
  if y1 = y0 then
    (X7_wrong τ (τ 10 11)).bind fun t59 =>
    X7_read_J23_80 t59 c1 x2 x3
  else
    if c1 = (0 : Int32) then
      (X7_portLine τ).bind fun t77 =>
      X7_read_J23_80 t77 c1 x2 x3
    else
      (X7_lawLine τ).bind fun t70 =>
      X7_read_J23_80 t70 c1 x2 x3
def X7_read_L23 (c1 : Int32) (w23 : Mm × Int32 × Int32) : Option ((Mm × Int32 × Int32) ⊕ (Mm × Int32)) :=
  if w23.2.1 = (0 : Int32) then
    some (.inr (w23.1, w23.2.2))
  else
    if (w23.1 10 12) = (-1 : Int32) then
      (X7_skip w23.1).bind fun t36 =>
      if c1 = (0 : Int32) then
        X7_read_J23_51 t36 c1 w23.2.1 w23.2.2 (14 : Int32) w23.2.2
      else
        X7_read_J23_51 t36 c1 w23.2.1 w23.2.2 (12 : Int32) w23.2.2
    else
      some (.inr (w23.1, w23.2.2))
def X7_read_J20 (τ : Mm) (a1 : Int32) (y0 : Int32) : Option (Int32 × Mm) :=
  (loopO (X7_read_L23 a1) FU (τ, y0, (0 : Int32))).bind fun e23 =>
  some (e23.2, e23.1)
def X7_read (τ : Mm) (a1 : Int32) : Option (Int32 × Mm) :=
  (X7_skip τ).bind fun t1 =>
  if (t1 10 10) ≤ (t1 10 11) then
    X7_read_J20 t1 a1 (0 : Int32)
  else
    X7_read_J20 t1 a1 (1 : Int32)
set_option maxHeartbeats 4000000 in
theorem mX7_read (τ : Mm) (a1 : Int32) (r : Int32) (τ' : Mm) (hf : X7_read τ a1 = some (r, τ')) : TMi yX7_read cX7_read 4 (some .int) 691 20023 (fun aK => [.int a1]) r τ τ' := by
  refine TMi.of (by decide) rfl (fun _ _ => Nat.le_of_ble_eq_true rfl) ?_
  intro p l e s m args below meth c D cI cZ o z aK aV Q ls hz hx hb hml hown hts hE hret hI hl
  obtain ⟨H, eH⟩ : ∃ H, H = s.heap := ⟨_, rfl⟩
  obtain ⟨locs, eL⟩ : ∃ L : List Loc, L = [] := ⟨_, rfl⟩
  rw [← eH, ← eL] at hI ⊢
  have hl : lv_has ls 4 [(0, .ref o), (1, .int a1)] := hl
  unfold X7_read at hf
  have hJ20 : ∀ (τ : Mm) (y0 : Int32) (H : Heap) (locs : List Loc) (ls : Array Slot), X7_read_J20 τ a1 y0 = some (r, τ') → IT D cI cZ o s H locs τ → lv_has ls 4 [(0, .ref o), (1, .int a1)] → W p l e ({ frames := 691, cells := 0, slots := 0, locals := 20023 } : Room) s m args below meth c H locs 0 0 Q (F0 m 20 ls [.int y0]) := by
    intro τ y0 H locs ls hf hI hl
    unfold X7_read_J20 at hf
    refine lv_istore_n (lv' := [(2, .int y0), (0, .ref o), (1, .int a1)]) hx hb dX7_read_20 rfl hl (by decide) rfl (fun ls hl => ?_)
    refine lv_iconst (v := (0 : Int32)) hx hb dX7_read_21 (by decide) ?_
    refine lv_istore_n (lv' := [(3, .int (0 : Int32)), (2, .int y0), (0, .ref o), (1, .int a1)]) hx hb dX7_read_22 rfl hl (by decide) rfl (fun ls hl => ?_)
    obtain ⟨e23, he23, hf⟩ := obd hf
    have hs23 : ∀ (c1 : Int32), ∀ (w23 : Mm × Int32 × Int32) (o23 : (Mm × Int32 × Int32) ⊕ (Mm × Int32)), X7_read_L23 c1 w23 = some o23 → (∀ wx_, o23 = .inl wx_ → ∀ (H : Heap) (locs : List Loc) (ls : Array Slot), IT D cI cZ o s H locs wx_.1 → lv_has ls 4 [(0, .ref o), (1, .int c1), (2, .int wx_.2.1), (3, .int wx_.2.2)] → W p l e ({ frames := 691, cells := 0, slots := 0, locals := 20023 } : Room) s m args below meth c H locs 0 0 Q (F0 m 23 ls [])) → (∀ ex_, o23 = .inr ex_ → ∀ (H : Heap) (locs : List Loc) (ls : Array Slot), IT D cI cZ o s H locs ex_.1 → lv_has ls 4 [(3, .int ex_.2)] → W p l e ({ frames := 691, cells := 0, slots := 0, locals := 20023 } : Room) s m args below meth c H locs 0 0 Q (F0 m 144 ls [])) → ∀ (H : Heap) (locs : List Loc) (ls : Array Slot), IT D cI cZ o s H locs w23.1 → lv_has ls 4 [(0, .ref o), (1, .int c1), (2, .int w23.2.1), (3, .int w23.2.2)] → W p l e ({ frames := 691, cells := 0, slots := 0, locals := 20023 } : Room) s m args below meth c H locs 0 0 Q (F0 m 23 ls []) := by
      intro c1 w23 o23 hf hk hq H locs ls hI hl
      unfold X7_read_L23 at hf
      have hJ80 : ∀ (τ : Mm) (x2 : Int32) (x3 : Int32) (H : Heap) (locs : List Loc) (ls : Array Slot), X7_read_J23_80 τ c1 x2 x3 = some o23 → IT D cI cZ o s H locs τ → lv_has ls 4 [(0, .ref o), (1, .int c1), (2, .int x2), (3, .int x3)] → W p l e ({ frames := 691, cells := 0, slots := 0, locals := 20023 } : Room) s m args below meth c H locs 0 0 Q (F0 m 80 ls []) := by
        intro τ x2 x3 H locs ls hf hI hl
        unfold X7_read_J23_80 at hf
        obtain ⟨v80, ev80, hf⟩ := obd hf
        refine lv_iinc (v := v80) (lv' := [(3, .int v80), (0, .ref o), (1, .int c1), (2, .int x2)]) hx hb dX7_read_80 hl (k := 3) rfl (iiE ev80 (by decide)) (by decide) rfl (fun ls hl => ?_)
        refine lv_aload_n hx hb dX7_read_83 rfl (lv_at hl 1 rfl) ?_
        obtain ⟨t84, et84, hf⟩ := obd hf
        refine tcallV (rest := []) hx hb hts hown hE hz hI hml hl.1 (mX7_skip τ _ et84) (cwX7_skip hts ⟨Nat.le_of_ble_eq_true rfl, Nat.le_of_ble_eq_true rfl⟩) ⟨Nat.le_of_ble_eq_true rfl, Nat.le_of_ble_eq_true rfl⟩ rfl rfl (lv_room (Nat.le_of_ble_eq_true rfl)) dX7_read_84 (fun H locs hI => ?_)
        refine lv_aload_n hx hb dX7_read_87 rfl (lv_at hl 1 rfl) ?_
        refine tget hx hb hts hown hE hI 12 (by decide) q2112 rfl dX7_read_88 ?_
        refine lv_iconst (v := (-1 : Int32)) hx hb dX7_read_91 (by decide) ?_
        refine lv_icmp_ne (tgt := 106) hx hb dX7_read_92 (by decide) (fun hc => ?_) (fun hc => ?_)
        · replace hf := ineg hc hf
          refine lv_iconst (v := (0 : Int32)) hx hb dX7_read_106 (by decide) ?_
          refine lv_istore_n (lv' := [(2, .int (0 : Int32)), (3, .int v80), (0, .ref o), (1, .int c1)]) hx hb dX7_read_107 rfl hl (by decide) rfl (fun ls hl => ?_)
          refine lv_goto (tgt := 23) hx hb dX7_read_108 (by decide) ?_
          exact hk _ (Option.some.inj hf).symm H locs ls hI (lv_sub hl [2, 3, 0, 1] rfl)
        · replace hf := ipos hc hf
          refine lv_aload_n hx hb dX7_read_95 rfl (lv_at hl 1 rfl) ?_
          refine tget hx hb hts hown hE hI 11 (by decide) q2111 rfl dX7_read_96 ?_
          refine lv_aload_n hx hb dX7_read_99 rfl (lv_at hl 1 rfl) ?_
          refine tget hx hb hts hown hE hI 10 (by decide) q2110 rfl dX7_read_100 ?_
          refine lv_icmp_ne (tgt := 111) hx hb dX7_read_103 (by decide) (fun hc => ?_) (fun hc => ?_)
          · replace hf := ineg hc hf
            refine lv_aload_n hx hb dX7_read_111 rfl (lv_at hl 1 rfl) ?_
            refine lv_bipush (v := (59 : Int32)) hx hb dX7_read_112 (by decide) ?_
            obtain ⟨x114, ex114, hf⟩ := obd hf
            refine tcallI (rest := []) hx hb hts hown hE hz hI hml hl.1 (mX7_isSign t84 (59 : Int32) _ _ ex114) (cwX7_isSign hts ⟨Nat.le_of_ble_eq_true rfl, Nat.le_of_ble_eq_true rfl⟩) ⟨Nat.le_of_ble_eq_true rfl, Nat.le_of_ble_eq_true rfl⟩ rfl rfl (lv_room (Nat.le_of_ble_eq_true rfl)) dX7_read_114 (fun H locs hI => ?_)
            refine lv_if_eq (tgt := 133) hx hb dX7_read_117 (by decide) (fun hc => ?_) (fun hc => ?_)
            · replace hf := ipos hc hf
              refine lv_aload_n hx hb dX7_read_133 rfl (lv_at hl 1 rfl) ?_
              refine lv_aload_n hx hb dX7_read_134 rfl (lv_at hl 1 rfl) ?_
              refine tget hx hb hts hown hE hI 11 (by decide) q2111 rfl dX7_read_135 ?_
              obtain ⟨t138, et138, hf⟩ := obd hf
              refine tcallV (rest := []) hx hb hts hown hE hz hI hml hl.1 (mX7_wrong x114.2 (x114.2 10 11) _ et138) (cwX7_wrong hts ⟨Nat.le_of_ble_eq_true rfl, Nat.le_of_ble_eq_true rfl⟩) ⟨Nat.le_of_ble_eq_true rfl, Nat.le_of_ble_eq_true rfl⟩ rfl rfl (lv_room (Nat.le_of_ble_eq_true rfl)) dX7_read_138 (fun H locs hI => ?_)
              refine lv_goto (tgt := 23) hx hb dX7_read_141 (by decide) ?_
              exact hk _ (Option.some.inj hf).symm H locs ls hI (lv_sub hl [1, 2, 3, 0] rfl)
            · replace hf := ineg hc hf
              refine lv_aload_n hx hb dX7_read_120 rfl (lv_at hl 1 rfl) ?_
              refine lv_dup hx hb dX7_read_121 rfl ?_
              refine tget hx hb hts hown hE hI 11 (by decide) q2111 rfl dX7_read_122 ?_
              refine lv_iconst (v := (1 : Int32)) hx hb dX7_read_125 (by decide) ?_
              refine lv_iadd hx hb dX7_read_126 ?_
              obtain ⟨t127, et127, hf⟩ := obd hf
              refine tput hx hb hts hown hE hI 11 (by decide) q2111 rfl (tyX7_ok 11 (by decide)) rfl rfl rfl et127 dX7_read_127 (fun H locs hI => ?_)
              refine lv_goto (tgt := 23) hx hb dX7_read_130 (by decide) ?_
              exact hk _ (Option.some.inj hf).symm H locs ls hI (lv_sub hl [1, 2, 3, 0] rfl)
          · replace hf := ipos hc hf
            refine lv_iconst (v := (0 : Int32)) hx hb dX7_read_106 (by decide) ?_
            refine lv_istore_n (lv' := [(2, .int (0 : Int32)), (3, .int v80), (0, .ref o), (1, .int c1)]) hx hb dX7_read_107 rfl hl (by decide) rfl (fun ls hl => ?_)
            refine lv_goto (tgt := 23) hx hb dX7_read_108 (by decide) ?_
            exact hk _ (Option.some.inj hf).symm H locs ls hI (lv_sub hl [2, 3, 0, 1] rfl)
      have hJ51 : ∀ (τ : Mm) (x2 : Int32) (x3 : Int32) (y0 : Int32) (y1 : Int32) (H : Heap) (locs : List Loc) (ls : Array Slot), X7_read_J23_51 τ c1 x2 x3 y0 y1 = some o23 → IT D cI cZ o s H locs τ → lv_has ls 4 [(0, .ref o), (1, .int c1), (2, .int x2), (3, .int x3)] → W p l e ({ frames := 691, cells := 0, slots := 0, locals := 20023 } : Room) s m args below meth c H locs 0 0 Q (F0 m 51 ls [.int y0, .int y1]) := by
        intro τ x2 x3 y0 y1 H locs ls hf hI hl
        unfold X7_read_J23_51 at hf
        refine lv_icmp_ne (tgt := 65) hx hb dX7_read_51 (by decide) (fun hc => ?_) (fun hc => ?_)
        · replace hf := ineg hc hf
          refine lv_iload_n hx hb dX7_read_65 rfl (lv_at hl 1 rfl) ?_
          refine lv_if_eq (tgt := 76) hx hb dX7_read_66 (by decide) (fun hc => ?_) (fun hc => ?_)
          · replace hf := ipos hc hf
            refine lv_aload_n hx hb dX7_read_76 rfl (lv_at hl 0 rfl) ?_
            obtain ⟨t77, et77, hf⟩ := obd hf
            refine tcallV (rest := []) hx hb hts hown hE hz hI hml hl.1 (mX7_portLine τ _ et77) (cwX7_portLine hts ⟨Nat.le_of_ble_eq_true rfl, Nat.le_of_ble_eq_true rfl⟩) ⟨Nat.le_of_ble_eq_true rfl, Nat.le_of_ble_eq_true rfl⟩ rfl rfl (lv_room (Nat.le_of_ble_eq_true rfl)) dX7_read_77 (fun H locs hI => ?_)
            exact hJ80 t77 x2 x3 H locs ls hf hI  (lv_sub hl [0, 1, 2, 3] rfl)
          · replace hf := ineg hc hf
            refine lv_aload_n hx hb dX7_read_69 rfl (lv_at hl 0 rfl) ?_
            obtain ⟨t70, et70, hf⟩ := obd hf
            refine tcallV (rest := []) hx hb hts hown hE hz hI hml hl.1 (mX7_lawLine τ _ et70) (cwX7_lawLine hts ⟨Nat.le_of_ble_eq_true rfl, Nat.le_of_ble_eq_true rfl⟩) ⟨Nat.le_of_ble_eq_true rfl, Nat.le_of_ble_eq_true rfl⟩ rfl rfl (lv_room (Nat.le_of_ble_eq_true rfl)) dX7_read_70 (fun H locs hI => ?_)
            refine lv_goto (tgt := 80) hx hb dX7_read_73 (by decide) ?_
            exact hJ80 t70 x2 x3 H locs ls hf hI  (lv_sub hl [0, 1, 2, 3] rfl)
        · replace hf := ipos hc hf
          refine lv_aload_n hx hb dX7_read_54 rfl (lv_at hl 0 rfl) ?_
          refine lv_aload_n hx hb dX7_read_55 rfl (lv_at hl 0 rfl) ?_
          refine tget hx hb hts hown hE hI 11 (by decide) q2111 rfl dX7_read_56 ?_
          obtain ⟨t59, et59, hf⟩ := obd hf
          refine tcallV (rest := []) hx hb hts hown hE hz hI hml hl.1 (mX7_wrong τ (τ 10 11) _ et59) (cwX7_wrong hts ⟨Nat.le_of_ble_eq_true rfl, Nat.le_of_ble_eq_true rfl⟩) ⟨Nat.le_of_ble_eq_true rfl, Nat.le_of_ble_eq_true rfl⟩ rfl rfl (lv_room (Nat.le_of_ble_eq_true rfl)) dX7_read_59 (fun H locs hI => ?_)
          refine lv_goto (tgt := 80) hx hb dX7_read_62 (by decide) ?_
          exact hJ80 t59 x2 x3 H locs ls hf hI  (lv_sub hl [0, 1, 2, 3] rfl)
      refine lv_iload_n hx hb dX7_read_23 rfl (lv_at hl 2 rfl) ?_
      refine lv_if_eq (tgt := 144) hx hb dX7_read_24 (by decide) (fun hc => ?_) (fun hc => ?_)
      · replace hf := ipos hc hf
        exact hq _ (Option.some.inj hf).symm H locs ls hI (lv_sub hl [3] rfl)
      · replace hf := ineg hc hf
        refine lv_aload_n hx hb dX7_read_27 rfl (lv_at hl 0 rfl) ?_
        refine tget hx hb hts hown hE hI 12 (by decide) q2112 rfl dX7_read_28 ?_
        refine lv_iconst (v := (-1 : Int32)) hx hb dX7_read_31 (by decide) ?_
        refine lv_icmp_ne (tgt := 144) hx hb dX7_read_32 (by decide) (fun hc => ?_) (fun hc => ?_)
        · replace hf := ineg hc hf
          exact hq _ (Option.some.inj hf).symm H locs ls hI (lv_sub hl [3] rfl)
        · replace hf := ipos hc hf
          refine lv_aload_n hx hb dX7_read_35 rfl (lv_at hl 0 rfl) ?_
          obtain ⟨t36, et36, hf⟩ := obd hf
          refine tcallV (rest := []) hx hb hts hown hE hz hI hml hl.1 (mX7_skip w23.1 _ et36) (cwX7_skip hts ⟨Nat.le_of_ble_eq_true rfl, Nat.le_of_ble_eq_true rfl⟩) ⟨Nat.le_of_ble_eq_true rfl, Nat.le_of_ble_eq_true rfl⟩ rfl rfl (lv_room (Nat.le_of_ble_eq_true rfl)) dX7_read_36 (fun H locs hI => ?_)
          refine lv_iload_n hx hb dX7_read_39 rfl (lv_at hl 3 rfl) ?_
          refine lv_iload_n hx hb dX7_read_40 rfl (lv_at hl 1 rfl) ?_
          refine lv_if_eq (tgt := 49) hx hb dX7_read_41 (by decide) (fun hc => ?_) (fun hc => ?_)
          · replace hf := ipos hc hf
            refine lv_bipush (v := (14 : Int32)) hx hb dX7_read_49 (by decide) ?_
            exact hJ51 t36 w23.2.1 w23.2.2 (14 : Int32) w23.2.2 H locs ls hf hI  (lv_sub hl [0, 1, 2, 3] rfl)
          · replace hf := ineg hc hf
            refine lv_bipush (v := (12 : Int32)) hx hb dX7_read_44 (by decide) ?_
            refine lv_goto (tgt := 51) hx hb dX7_read_46 (by decide) ?_
            exact hJ51 t36 w23.2.1 w23.2.2 (12 : Int32) w23.2.2 H locs ls hf hI  (lv_sub hl [0, 1, 2, 3] rfl)
    refine loopO_W (Wat := fun w23 => ∀ (H : Heap) (locs : List Loc) (ls : Array Slot), IT D cI cZ o s H locs w23.1 → lv_has ls 4 [(0, .ref o), (1, .int a1), (2, .int w23.2.1), (3, .int w23.2.2)] → W p l e ({ frames := 691, cells := 0, slots := 0, locals := 20023 } : Room) s m args below meth c H locs 0 0 Q (F0 m 23 ls [])) (Wex := fun ex_ => ∀ (H : Heap) (locs : List Loc) (ls : Array Slot), IT D cI cZ o s H locs ex_.1 → lv_has ls 4 [(3, .int ex_.2)] → W p l e ({ frames := 691, cells := 0, slots := 0, locals := 20023 } : Room) s m args below meth c H locs 0 0 Q (F0 m 144 ls [])) (hs23 a1) FU _ e23 he23 ?_ H locs ls hI (lv_sub hl [2, 3, 1, 0] rfl)
    · skip
      intro H locs ls hI hl
      refine lv_iload_n hx hb dX7_read_144 rfl (lv_at hl 0 rfl) ?_
      have hf := Prod.mk.inj (Option.some.inj hf)
      rw [hf.1]
      exact hret H locs 145 ls (hf.2 ▸ hI) dX7_read_145
  refine lv_aload_n hx hb dX7_read_0 rfl (lv_at hl 0 rfl) ?_
  obtain ⟨t1, et1, hf⟩ := obd hf
  refine tcallV (rest := []) hx hb hts hown hE hz hI hml hl.1 (mX7_skip τ _ et1) (cwX7_skip hts ⟨Nat.le_of_ble_eq_true rfl, Nat.le_of_ble_eq_true rfl⟩) ⟨Nat.le_of_ble_eq_true rfl, Nat.le_of_ble_eq_true rfl⟩ rfl rfl (lv_room (Nat.le_of_ble_eq_true rfl)) dX7_read_1 (fun H locs hI => ?_)
  refine lv_aload_n hx hb dX7_read_4 rfl (lv_at hl 0 rfl) ?_
  refine tget hx hb hts hown hE hI 11 (by decide) q2111 rfl dX7_read_5 ?_
  refine lv_aload_n hx hb dX7_read_8 rfl (lv_at hl 0 rfl) ?_
  refine tget hx hb hts hown hE hI 10 (by decide) q2110 rfl dX7_read_9 ?_
  refine lv_icmp_ge (tgt := 19) hx hb dX7_read_12 (by decide) (fun hc => ?_) (fun hc => ?_)
  · replace hf := ipos hc hf
    refine lv_iconst (v := (0 : Int32)) hx hb dX7_read_19 (by decide) ?_
    exact hJ20 t1 (0 : Int32) H locs ls hf hI  (lv_sub hl [0, 1] rfl)
  · replace hf := ineg hc hf
    refine lv_iconst (v := (1 : Int32)) hx hb dX7_read_15 (by decide) ?_
    refine lv_goto (tgt := 20) hx hb dX7_read_16 (by decide) ?_
    exact hJ20 t1 (1 : Int32) H locs ls hf hI  (lv_sub hl [0, 1] rfl)
theorem cwX7_read {R : Room} {s : State} {args : Array Value} {fr lo : Nat} (hts : ∀ w ∈ lw_all, w.before args s = true) (hR : fr + 1 ≤ R.frames ∧ 8 + (4 + 11) + lo ≤ R.locals) : CallW R s args RX7 RX7 205 yX7_read cX7_read 4 (some .int) (ws_ yX7_read cX7_read 4 (some .int)) ({ frames := fr, cells := 0, slots := 0, locals := lo }) 0 0 1 :=
  cwV 1 hts (lw_V q2200 q2202 qs62 q143 q2203) rfl rfl rfl (by decide +kernel) hR

def X7_comesBack_L2 (w2 : Mm × Int32) : Option ((Mm × Int32) ⊕ (Mm)) :=
  if (381 : Int32) ≤ w2.2 then
    some (.inr w2.1)
  else
    (ld 381 (w2.1 2) w2.2).bind fun x19 =>
    (sto 781 w2.1 0 w2.2 x19).bind fun t20 =>
    (some (w2.2 + (1 : Int32))).bind fun v21 =>
    some (.inl (t20, v21))
def X7_comesBack (τ : Mm) : Option (Mm) :=
  (loopO (X7_comesBack_L2) FU (τ, (0 : Int32))).bind fun e2 =>
  some e2
set_option maxHeartbeats 4000000 in
theorem mX7_comesBack (τ : Mm) (τ' : Mm) (hf : X7_comesBack τ = some τ') : TMv yX7_comesBack cX7_comesBack 2 none 1 40 (fun aK => []) τ τ' := by
  refine TMv.of (by decide) rfl (fun _ _ => Nat.le_of_ble_eq_true rfl) ?_
  intro p l e s m args below meth c D cI cZ o z aK aV Q ls hz hx hb hml hown hts hE hret hI hl
  obtain ⟨H, eH⟩ : ∃ H, H = s.heap := ⟨_, rfl⟩
  obtain ⟨locs, eL⟩ : ∃ L : List Loc, L = [] := ⟨_, rfl⟩
  rw [← eH, ← eL] at hI ⊢
  have hl : lv_has ls 2 [(0, .ref o)] := hl
  unfold X7_comesBack at hf
  refine lv_iconst (v := (0 : Int32)) hx hb dX7_comesBack_0 (by decide) ?_
  refine lv_istore_n (lv' := [(1, .int (0 : Int32)), (0, .ref o)]) hx hb dX7_comesBack_1 rfl hl (by decide) rfl (fun ls hl => ?_)
  obtain ⟨e2, he2, hf⟩ := obd hf
  refine loopO_W (Wat := fun w2 => ∀ (H : Heap) (locs : List Loc) (ls : Array Slot), IT D cI cZ o s H locs w2.1 → lv_has ls 2 [(0, .ref o), (1, .int w2.2)] → W p l e ({ frames := 1, cells := 0, slots := 0, locals := 40 } : Room) s m args below meth c H locs 0 0 Q (F0 m 2 ls [])) (Wex := fun ex_ => ∀ (H : Heap) (locs : List Loc) (ls : Array Slot), IT D cI cZ o s H locs ex_ → lv_has ls 2 [] → W p l e ({ frames := 1, cells := 0, slots := 0, locals := 40 } : Room) s m args below meth c H locs 0 0 Q (F0 m 27 ls [])) (fun w2 o2 hf hk hq => ?_) FU _ e2 he2 ?_ H locs ls hI (lv_sub hl [1, 0] rfl)
  · intro H locs ls hI hl
    unfold X7_comesBack_L2 at hf
    refine lv_iload_n hx hb dX7_comesBack_2 rfl (lv_at hl 1 rfl) ?_
    refine lv_sipush (v := (381 : Int32)) hx hb dX7_comesBack_3 (by decide) ?_
    refine lv_icmp_ge (tgt := 27) hx hb dX7_comesBack_6 (by decide) (fun hc => ?_) (fun hc => ?_)
    · replace hf := ipos hc hf
      exact hq _ (Option.some.inj hf).symm H locs ls hI (lv_sub hl [] rfl)
    · replace hf := ineg hc hf
      refine lv_aload_n hx hb dX7_comesBack_9 rfl (lv_at hl 0 rfl) ?_
      refine tget hx hb hts hown hE hI 1 (by decide) q2101 rfl dX7_comesBack_10 ?_
      refine lv_iload_n hx hb dX7_comesBack_13 rfl (lv_at hl 1 rfl) ?_
      refine lv_aload_n hx hb dX7_comesBack_14 rfl (lv_at hl 0 rfl) ?_
      refine tget hx hb hts hown hE hI 4 (by decide) q2104 rfl dX7_comesBack_15 ?_
      refine lv_iload_n hx hb dX7_comesBack_18 rfl (lv_at hl 1 rfl) ?_
      obtain ⟨x19, ex19, hf⟩ := obd hf
      refine tald hx hb hE hI 3 381 rfl ex19 dX7_comesBack_19 ?_
      obtain ⟨t20, et20, hf⟩ := obd hf
      refine tast hx hb hE hI 1 781 0 rfl (fun _ => rfl) et20 dX7_comesBack_20 (fun H locs hI => ?_)
      obtain ⟨v21, ev21, hf⟩ := obd hf
      refine lv_iinc (v := v21) (lv' := [(1, .int v21), (0, .ref o)]) hx hb dX7_comesBack_21 hl (k := 1) rfl (iiE ev21 (by decide)) (by decide) rfl (fun ls hl => ?_)
      refine lv_goto (tgt := 2) hx hb dX7_comesBack_24 (by decide) ?_
      exact hk _ (Option.some.inj hf).symm H locs ls hI (lv_sub hl [1, 0] rfl)
  · skip
    intro H locs ls hI hl
    exact hret H locs 27 ls ((Option.some.inj hf) ▸ hI) dX7_comesBack_27
theorem cwX7_comesBack {R : Room} {s : State} {args : Array Value} {fr lo : Nat} (hts : ∀ w ∈ lw_all, w.before args s = true) (hR : fr + 1 ≤ R.frames ∧ 8 + (2 + 11) + lo ≤ R.locals) : CallW R s args RX7 RX7 209 yX7_comesBack cX7_comesBack 2 (none) (ws_ yX7_comesBack cX7_comesBack 2 (none)) ({ frames := fr, cells := 0, slots := 0, locals := lo }) 0 0 0 :=
  cwV 0 hts (lw_V q2346 q2348 qs88 q143 q2349) rfl rfl rfl (by decide +kernel) hR

def X7_port_J43 (τ : Mm) (y0 : Int32) : Option (Int32 × Mm) :=
  (some (mup τ 10 0 y0)).bind fun t43 =>
  if (t43 10 0) ≤ (0 : Int32) then
    (sto 781 t43 0 (0 : Int32) ((t43 0 0) + (1 : Int32))).bind fun t68 =>
    (some (mup t68 10 6 (0 : Int32))).bind fun t71 =>
    some ((t71 0 0), t71)
  else
    (X7_comesBack t43).bind fun t54 =>
    some ((0 : Int32), t54)
def X7_port (τ : Mm) : Option (Int32 × Mm) :=
  (X7_putsAside τ).bind fun t1 =>
  (X7_begins t1).bind fun t5 =>
  (X7_read t5 (0 : Int32)).bind fun x10 =>
  if (x10.2 10 12) = (-1 : Int32) then
    if (x10.2 0 0) = (12 : Int32) then
      X7_port_J43 x10.2 (2 : Int32)
    else
      X7_port_J43 x10.2 (0 : Int32)
  else
    X7_port_J43 x10.2 (1 : Int32)
set_option maxHeartbeats 4000000 in
theorem mX7_port (τ : Mm) (r : Int32) (τ' : Mm) (hf : X7_port τ = some (r, τ')) : TMi yX7_port cX7_port 2 (some .int) 692 20046 (fun aK => []) r τ τ' := by
  refine TMi.of (by decide) rfl (fun _ _ => Nat.le_of_ble_eq_true rfl) ?_
  intro p l e s m args below meth c D cI cZ o z aK aV Q ls hz hx hb hml hown hts hE hret hI hl
  obtain ⟨H, eH⟩ : ∃ H, H = s.heap := ⟨_, rfl⟩
  obtain ⟨locs, eL⟩ : ∃ L : List Loc, L = [] := ⟨_, rfl⟩
  rw [← eH, ← eL] at hI ⊢
  have hl : lv_has ls 2 [(0, .ref o)] := hl
  unfold X7_port at hf
  have hJ43 : ∀ (τ : Mm) (y0 : Int32) (H : Heap) (locs : List Loc) (ls : Array Slot), X7_port_J43 τ y0 = some (r, τ') → IT D cI cZ o s H locs τ → lv_has ls 2 [(0, .ref o)] → W p l e ({ frames := 692, cells := 0, slots := 0, locals := 20046 } : Room) s m args below meth c H locs 0 0 Q (F0 m 43 ls [.int y0, .ref o]) := by
    intro τ y0 H locs ls hf hI hl
    unfold X7_port_J43 at hf
    obtain ⟨t43, et43, hf⟩ := obd hf
    refine tput hx hb hts hown hE hI 0 (by decide) q2100 rfl (tyX7_ok 0 (by decide)) rfl rfl rfl et43 dX7_port_43 (fun H locs hI => ?_)
    refine lv_aload_n hx hb dX7_port_46 rfl (lv_at hl 0 rfl) ?_
    refine tget hx hb hts hown hE hI 0 (by decide) q2100 rfl dX7_port_47 ?_
    refine lv_if_le (tgt := 59) hx hb dX7_port_50 (by decide) (fun hc => ?_) (fun hc => ?_)
    · replace hf := ipos hc hf
      refine lv_aload_n hx hb dX7_port_59 rfl (lv_at hl 0 rfl) ?_
      refine tget hx hb hts hown hE hI 1 (by decide) q2101 rfl dX7_port_60 ?_
      refine lv_iconst (v := (0 : Int32)) hx hb dX7_port_63 (by decide) ?_
      refine lv_dup2_11 hx hb dX7_port_64 rfl rfl ?_
      refine taldc hx hb hE hI 1 781 0 rfl (by decide) (by decide) dX7_port_65 ?_
      refine lv_iconst (v := (1 : Int32)) hx hb dX7_port_66 (by decide) ?_
      refine lv_iadd hx hb dX7_port_67 ?_
      obtain ⟨t68, et68, hf⟩ := obd hf
      refine tast hx hb hE hI 1 781 0 rfl (fun _ => rfl) et68 dX7_port_68 (fun H locs hI => ?_)
      refine lv_aload_n hx hb dX7_port_69 rfl (lv_at hl 0 rfl) ?_
      refine lv_iconst (v := (0 : Int32)) hx hb dX7_port_70 (by decide) ?_
      obtain ⟨t71, et71, hf⟩ := obd hf
      refine tput hx hb hts hown hE hI 6 (by decide) q2106 rfl (tyX7_ok 6 (by decide)) rfl rfl rfl et71 dX7_port_71 (fun H locs hI => ?_)
      refine lv_aload_n hx hb dX7_port_74 rfl (lv_at hl 0 rfl) ?_
      refine tget hx hb hts hown hE hI 1 (by decide) q2101 rfl dX7_port_75 ?_
      refine lv_iconst (v := (0 : Int32)) hx hb dX7_port_78 (by decide) ?_
      refine taldc hx hb hE hI 1 781 0 rfl (by decide) (by decide) dX7_port_79 ?_
      have hf := Prod.mk.inj (Option.some.inj hf)
      rw [hf.1]
      exact hret H locs 80 ls (hf.2 ▸ hI) dX7_port_80
    · replace hf := ineg hc hf
      refine lv_aload_n hx hb dX7_port_53 rfl (lv_at hl 0 rfl) ?_
      obtain ⟨t54, et54, hf⟩ := obd hf
      refine tcallV (rest := []) hx hb hts hown hE hz hI hml hl.1 (mX7_comesBack t43 _ et54) (cwX7_comesBack hts ⟨Nat.le_of_ble_eq_true rfl, Nat.le_of_ble_eq_true rfl⟩) ⟨Nat.le_of_ble_eq_true rfl, Nat.le_of_ble_eq_true rfl⟩ rfl rfl (lv_room (Nat.le_of_ble_eq_true rfl)) dX7_port_54 (fun H locs hI => ?_)
      refine lv_iconst (v := (0 : Int32)) hx hb dX7_port_57 (by decide) ?_
      have hf := Prod.mk.inj (Option.some.inj hf)
      rw [hf.1]
      exact hret H locs 58 ls (hf.2 ▸ hI) dX7_port_58
  refine lv_aload_n hx hb dX7_port_0 rfl (lv_at hl 0 rfl) ?_
  obtain ⟨t1, et1, hf⟩ := obd hf
  refine tcallV (rest := []) hx hb hts hown hE hz hI hml hl.1 (mX7_putsAside τ _ et1) (cwX7_putsAside hts ⟨Nat.le_of_ble_eq_true rfl, Nat.le_of_ble_eq_true rfl⟩) ⟨Nat.le_of_ble_eq_true rfl, Nat.le_of_ble_eq_true rfl⟩ rfl rfl (lv_room (Nat.le_of_ble_eq_true rfl)) dX7_port_1 (fun H locs hI => ?_)
  refine lv_aload_n hx hb dX7_port_4 rfl (lv_at hl 0 rfl) ?_
  obtain ⟨t5, et5, hf⟩ := obd hf
  refine tcallV (rest := []) hx hb hts hown hE hz hI hml hl.1 (mX7_begins t1 _ et5) (cwX7_begins hts ⟨Nat.le_of_ble_eq_true rfl, Nat.le_of_ble_eq_true rfl⟩) ⟨Nat.le_of_ble_eq_true rfl, Nat.le_of_ble_eq_true rfl⟩ rfl rfl (lv_room (Nat.le_of_ble_eq_true rfl)) dX7_port_5 (fun H locs hI => ?_)
  refine lv_aload_n hx hb dX7_port_8 rfl (lv_at hl 0 rfl) ?_
  refine lv_iconst (v := (0 : Int32)) hx hb dX7_port_9 (by decide) ?_
  obtain ⟨x10, ex10, hf⟩ := obd hf
  refine tcallI (rest := []) hx hb hts hown hE hz hI hml hl.1 (mX7_read t5 (0 : Int32) _ _ ex10) (cwX7_read hts ⟨Nat.le_of_ble_eq_true rfl, Nat.le_of_ble_eq_true rfl⟩) ⟨Nat.le_of_ble_eq_true rfl, Nat.le_of_ble_eq_true rfl⟩ rfl rfl (lv_room (Nat.le_of_ble_eq_true rfl)) dX7_port_10 (fun H locs hI => ?_)
  refine lv_istore_n (lv' := [(1, .int x10.1), (0, .ref o)]) hx hb dX7_port_13 rfl hl (by decide) rfl (fun ls hl => ?_)
  refine lv_aload_n hx hb dX7_port_14 rfl (lv_at hl 1 rfl) ?_
  refine lv_aload_n hx hb dX7_port_15 rfl (lv_at hl 1 rfl) ?_
  refine tget hx hb hts hown hE hI 12 (by decide) q2112 rfl dX7_port_16 ?_
  refine lv_iconst (v := (-1 : Int32)) hx hb dX7_port_19 (by decide) ?_
  refine lv_icmp_eq (tgt := 27) hx hb dX7_port_20 (by decide) (fun hc => ?_) (fun hc => ?_)
  · replace hf := ipos hc hf
    refine lv_aload_n hx hb dX7_port_27 rfl (lv_at hl 1 rfl) ?_
    refine tget hx hb hts hown hE hI 1 (by decide) q2101 rfl dX7_port_28 ?_
    refine lv_iconst (v := (0 : Int32)) hx hb dX7_port_31 (by decide) ?_
    refine taldc hx hb hE hI 1 781 0 rfl (by decide) (by decide) dX7_port_32 ?_
    refine lv_bipush (v := (12 : Int32)) hx hb dX7_port_33 (by decide) ?_
    refine lv_icmp_ne (tgt := 42) hx hb dX7_port_35 (by decide) (fun hc => ?_) (fun hc => ?_)
    · replace hf := ineg hc hf
      refine lv_iconst (v := (0 : Int32)) hx hb dX7_port_42 (by decide) ?_
      exact hJ43 x10.2 (0 : Int32) H locs ls hf hI  (lv_sub hl [1] rfl)
    · replace hf := ipos hc hf
      refine lv_iconst (v := (2 : Int32)) hx hb dX7_port_38 (by decide) ?_
      refine lv_goto (tgt := 43) hx hb dX7_port_39 (by decide) ?_
      exact hJ43 x10.2 (2 : Int32) H locs ls hf hI  (lv_sub hl [1] rfl)
  · replace hf := ineg hc hf
    refine lv_iconst (v := (1 : Int32)) hx hb dX7_port_23 (by decide) ?_
    refine lv_goto (tgt := 43) hx hb dX7_port_24 (by decide) ?_
    exact hJ43 x10.2 (1 : Int32) H locs ls hf hI  (lv_sub hl [1] rfl)


def X7_law_L55 (c1 : Int32) (w55 : Mm × Int32) : Option ((Mm × Int32) ⊕ (Mm)) :=
  if (w55.1 10 10) ≤ w55.2 then
    some (.inr w55.1)
  else
    (ld 400 (w55.1 4) w55.2).bind fun x77 =>
    (sto 781 w55.1 0 ((381 : Int32) + w55.2) x77).bind fun t78 =>
    (some (w55.2 + (1 : Int32))).bind fun v79 =>
    some (.inl (t78, v79))
def X7_law_J24 (τ : Mm) (x1 : Int32) (y0 : Int32) : Option (Int32 × Mm) :=
  (some (mup τ 10 0 y0)).bind fun t24 =>
  if (t24 10 0) ≤ (0 : Int32) then
    (sto 781 t24 0 (1 : Int32) x1).bind fun t42 =>
    (sto 781 t42 0 (2 : Int32) (t42 10 10)).bind fun t52 =>
    (loopO (X7_law_L55 x1) FU (t52, (0 : Int32))).bind fun e55 =>
    (some (mup e55 10 6 (0 : Int32))).bind fun t87 =>
    some (x1, t87)
  else
    some ((0 : Int32), t24)
def X7_law (τ : Mm) : Option (Int32 × Mm) :=
  (X7_begins τ).bind fun t1 =>
  (X7_read t1 (1 : Int32)).bind fun x6 =>
  if (x6.2 10 12) = (-1 : Int32) then
    X7_law_J24 x6.2 x6.1 (0 : Int32)
  else
    X7_law_J24 x6.2 x6.1 (1 : Int32)
set_option maxHeartbeats 4000000 in
theorem mX7_law (τ : Mm) (r : Int32) (τ' : Mm) (hf : X7_law τ = some (r, τ')) : TMi yX7_law cX7_law 3 (some .int) 692 20046 (fun aK => []) r τ τ' := by
  refine TMi.of (by decide) rfl (fun _ _ => Nat.le_of_ble_eq_true rfl) ?_
  intro p l e s m args below meth c D cI cZ o z aK aV Q ls hz hx hb hml hown hts hE hret hI hl
  obtain ⟨H, eH⟩ : ∃ H, H = s.heap := ⟨_, rfl⟩
  obtain ⟨locs, eL⟩ : ∃ L : List Loc, L = [] := ⟨_, rfl⟩
  rw [← eH, ← eL] at hI ⊢
  have hl : lv_has ls 3 [(0, .ref o)] := hl
  unfold X7_law at hf
  have hJ24 : ∀ (τ : Mm) (x1 : Int32) (y0 : Int32) (H : Heap) (locs : List Loc) (ls : Array Slot), X7_law_J24 τ x1 y0 = some (r, τ') → IT D cI cZ o s H locs τ → lv_has ls 3 [(0, .ref o), (1, .int x1)] → W p l e ({ frames := 692, cells := 0, slots := 0, locals := 20046 } : Room) s m args below meth c H locs 0 0 Q (F0 m 24 ls [.int y0, .ref o]) := by
    intro τ x1 y0 H locs ls hf hI hl
    unfold X7_law_J24 at hf
    obtain ⟨t24, et24, hf⟩ := obd hf
    refine tput hx hb hts hown hE hI 0 (by decide) q2100 rfl (tyX7_ok 0 (by decide)) rfl rfl rfl et24 dX7_law_24 (fun H locs hI => ?_)
    refine lv_aload_n hx hb dX7_law_27 rfl (lv_at hl 0 rfl) ?_
    refine tget hx hb hts hown hE hI 0 (by decide) q2100 rfl dX7_law_28 ?_
    refine lv_if_le (tgt := 36) hx hb dX7_law_31 (by decide) (fun hc => ?_) (fun hc => ?_)
    · replace hf := ipos hc hf
      refine lv_aload_n hx hb dX7_law_36 rfl (lv_at hl 0 rfl) ?_
      refine tget hx hb hts hown hE hI 1 (by decide) q2101 rfl dX7_law_37 ?_
      refine lv_iconst (v := (1 : Int32)) hx hb dX7_law_40 (by decide) ?_
      refine lv_iload_n hx hb dX7_law_41 rfl (lv_at hl 1 rfl) ?_
      obtain ⟨t42, et42, hf⟩ := obd hf
      refine tast hx hb hE hI 1 781 0 rfl (fun _ => rfl) et42 dX7_law_42 (fun H locs hI => ?_)
      refine lv_aload_n hx hb dX7_law_43 rfl (lv_at hl 0 rfl) ?_
      refine tget hx hb hts hown hE hI 1 (by decide) q2101 rfl dX7_law_44 ?_
      refine lv_iconst (v := (2 : Int32)) hx hb dX7_law_47 (by decide) ?_
      refine lv_aload_n hx hb dX7_law_48 rfl (lv_at hl 0 rfl) ?_
      refine tget hx hb hts hown hE hI 10 (by decide) q2110 rfl dX7_law_49 ?_
      obtain ⟨t52, et52, hf⟩ := obd hf
      refine tast hx hb hE hI 1 781 0 rfl (fun _ => rfl) et52 dX7_law_52 (fun H locs hI => ?_)
      refine lv_iconst (v := (0 : Int32)) hx hb dX7_law_53 (by decide) ?_
      refine lv_istore_n (lv' := [(2, .int (0 : Int32)), (0, .ref o), (1, .int x1)]) hx hb dX7_law_54 rfl hl (by decide) rfl (fun ls hl => ?_)
      obtain ⟨e55, he55, hf⟩ := obd hf
      have hs55 : ∀ (c1 : Int32), ∀ (w55 : Mm × Int32) (o55 : (Mm × Int32) ⊕ (Mm)), X7_law_L55 c1 w55 = some o55 → (∀ wx_, o55 = .inl wx_ → ∀ (H : Heap) (locs : List Loc) (ls : Array Slot), IT D cI cZ o s H locs wx_.1 → lv_has ls 3 [(0, .ref o), (1, .int c1), (2, .int wx_.2)] → W p l e ({ frames := 692, cells := 0, slots := 0, locals := 20046 } : Room) s m args below meth c H locs 0 0 Q (F0 m 55 ls [])) → (∀ ex_, o55 = .inr ex_ → ∀ (H : Heap) (locs : List Loc) (ls : Array Slot), IT D cI cZ o s H locs ex_ → lv_has ls 3 [(0, .ref o), (1, .int c1)] → W p l e ({ frames := 692, cells := 0, slots := 0, locals := 20046 } : Room) s m args below meth c H locs 0 0 Q (F0 m 85 ls [])) → ∀ (H : Heap) (locs : List Loc) (ls : Array Slot), IT D cI cZ o s H locs w55.1 → lv_has ls 3 [(0, .ref o), (1, .int c1), (2, .int w55.2)] → W p l e ({ frames := 692, cells := 0, slots := 0, locals := 20046 } : Room) s m args below meth c H locs 0 0 Q (F0 m 55 ls []) := by
        intro c1 w55 o55 hf hk hq H locs ls hI hl
        unfold X7_law_L55 at hf
        refine lv_iload_n hx hb dX7_law_55 rfl (lv_at hl 2 rfl) ?_
        refine lv_aload_n hx hb dX7_law_56 rfl (lv_at hl 0 rfl) ?_
        refine tget hx hb hts hown hE hI 10 (by decide) q2110 rfl dX7_law_57 ?_
        refine lv_icmp_ge (tgt := 85) hx hb dX7_law_60 (by decide) (fun hc => ?_) (fun hc => ?_)
        · replace hf := ipos hc hf
          exact hq _ (Option.some.inj hf).symm H locs ls hI (lv_sub hl [0, 1] rfl)
        · replace hf := ineg hc hf
          refine lv_aload_n hx hb dX7_law_63 rfl (lv_at hl 0 rfl) ?_
          refine tget hx hb hts hown hE hI 1 (by decide) q2101 rfl dX7_law_64 ?_
          refine lv_sipush (v := (381 : Int32)) hx hb dX7_law_67 (by decide) ?_
          refine lv_iload_n hx hb dX7_law_70 rfl (lv_at hl 2 rfl) ?_
          refine lv_iadd hx hb dX7_law_71 ?_
          refine lv_aload_n hx hb dX7_law_72 rfl (lv_at hl 0 rfl) ?_
          refine tget hx hb hts hown hE hI 7 (by decide) q2107 rfl dX7_law_73 ?_
          refine lv_iload_n hx hb dX7_law_76 rfl (lv_at hl 2 rfl) ?_
          obtain ⟨x77, ex77, hf⟩ := obd hf
          refine tald hx hb hE hI 5 400 rfl ex77 dX7_law_77 ?_
          obtain ⟨t78, et78, hf⟩ := obd hf
          refine tast hx hb hE hI 1 781 0 rfl (fun _ => rfl) et78 dX7_law_78 (fun H locs hI => ?_)
          obtain ⟨v79, ev79, hf⟩ := obd hf
          refine lv_iinc (v := v79) (lv' := [(2, .int v79), (0, .ref o), (1, .int c1)]) hx hb dX7_law_79 hl (k := 2) rfl (iiE ev79 (by decide)) (by decide) rfl (fun ls hl => ?_)
          refine lv_goto (tgt := 55) hx hb dX7_law_82 (by decide) ?_
          exact hk _ (Option.some.inj hf).symm H locs ls hI (lv_sub hl [1, 2, 0] rfl)
      refine loopO_W (Wat := fun w55 => ∀ (H : Heap) (locs : List Loc) (ls : Array Slot), IT D cI cZ o s H locs w55.1 → lv_has ls 3 [(0, .ref o), (1, .int x1), (2, .int w55.2)] → W p l e ({ frames := 692, cells := 0, slots := 0, locals := 20046 } : Room) s m args below meth c H locs 0 0 Q (F0 m 55 ls [])) (Wex := fun ex_ => ∀ (H : Heap) (locs : List Loc) (ls : Array Slot), IT D cI cZ o s H locs ex_ → lv_has ls 3 [(0, .ref o), (1, .int x1)] → W p l e ({ frames := 692, cells := 0, slots := 0, locals := 20046 } : Room) s m args below meth c H locs 0 0 Q (F0 m 85 ls [])) (hs55 x1) FU _ e55 he55 ?_ H locs ls hI (lv_sub hl [1, 2, 0] rfl)
      · skip
        intro H locs ls hI hl
        refine lv_aload_n hx hb dX7_law_85 rfl (lv_at hl 0 rfl) ?_
        refine lv_iconst (v := (0 : Int32)) hx hb dX7_law_86 (by decide) ?_
        obtain ⟨t87, et87, hf⟩ := obd hf
        refine tput hx hb hts hown hE hI 6 (by decide) q2106 rfl (tyX7_ok 6 (by decide)) rfl rfl rfl et87 dX7_law_87 (fun H locs hI => ?_)
        refine lv_iload_n hx hb dX7_law_90 rfl (lv_at hl 1 rfl) ?_
        have hf := Prod.mk.inj (Option.some.inj hf)
        rw [hf.1]
        exact hret H locs 91 ls (hf.2 ▸ hI) dX7_law_91
    · replace hf := ineg hc hf
      refine lv_iconst (v := (0 : Int32)) hx hb dX7_law_34 (by decide) ?_
      have hf := Prod.mk.inj (Option.some.inj hf)
      rw [hf.1]
      exact hret H locs 35 ls (hf.2 ▸ hI) dX7_law_35
  refine lv_aload_n hx hb dX7_law_0 rfl (lv_at hl 0 rfl) ?_
  obtain ⟨t1, et1, hf⟩ := obd hf
  refine tcallV (rest := []) hx hb hts hown hE hz hI hml hl.1 (mX7_begins τ _ et1) (cwX7_begins hts ⟨Nat.le_of_ble_eq_true rfl, Nat.le_of_ble_eq_true rfl⟩) ⟨Nat.le_of_ble_eq_true rfl, Nat.le_of_ble_eq_true rfl⟩ rfl rfl (lv_room (Nat.le_of_ble_eq_true rfl)) dX7_law_1 (fun H locs hI => ?_)
  refine lv_aload_n hx hb dX7_law_4 rfl (lv_at hl 0 rfl) ?_
  refine lv_iconst (v := (1 : Int32)) hx hb dX7_law_5 (by decide) ?_
  obtain ⟨x6, ex6, hf⟩ := obd hf
  refine tcallI (rest := []) hx hb hts hown hE hz hI hml hl.1 (mX7_read t1 (1 : Int32) _ _ ex6) (cwX7_read hts ⟨Nat.le_of_ble_eq_true rfl, Nat.le_of_ble_eq_true rfl⟩) ⟨Nat.le_of_ble_eq_true rfl, Nat.le_of_ble_eq_true rfl⟩ rfl rfl (lv_room (Nat.le_of_ble_eq_true rfl)) dX7_law_6 (fun H locs hI => ?_)
  refine lv_istore_n (lv' := [(1, .int x6.1), (0, .ref o)]) hx hb dX7_law_9 rfl hl (by decide) rfl (fun ls hl => ?_)
  refine lv_aload_n hx hb dX7_law_10 rfl (lv_at hl 1 rfl) ?_
  refine lv_aload_n hx hb dX7_law_11 rfl (lv_at hl 1 rfl) ?_
  refine tget hx hb hts hown hE hI 12 (by decide) q2112 rfl dX7_law_12 ?_
  refine lv_iconst (v := (-1 : Int32)) hx hb dX7_law_15 (by decide) ?_
  refine lv_icmp_eq (tgt := 23) hx hb dX7_law_16 (by decide) (fun hc => ?_) (fun hc => ?_)
  · replace hf := ipos hc hf
    refine lv_iconst (v := (0 : Int32)) hx hb dX7_law_23 (by decide) ?_
    exact hJ24 x6.2 x6.1 (0 : Int32) H locs ls hf hI  (lv_sub hl [1, 0] rfl)
  · replace hf := ineg hc hf
    refine lv_iconst (v := (1 : Int32)) hx hb dX7_law_19 (by decide) ?_
    refine lv_goto (tgt := 24) hx hb dX7_law_20 (by decide) ?_
    exact hJ24 x6.2 x6.1 (1 : Int32) H locs ls hf hI  (lv_sub hl [1, 0] rfl)


def X7_fault (τ : Mm) : Option (Int32 × Mm) :=
  (some (mup τ 10 0 (0 : Int32))).bind fun t2 =>
  some ((t2 10 12), t2)
set_option maxHeartbeats 4000000 in
theorem mX7_fault (τ : Mm) (r : Int32) (τ' : Mm) (hf : X7_fault τ = some (r, τ')) : TMi yX7_fault cX7_fault 1 (some .int) 1 40 (fun aK => []) r τ τ' := by
  refine TMi.of (by decide) rfl (fun _ _ => Nat.le_of_ble_eq_true rfl) ?_
  intro p l e s m args below meth c D cI cZ o z aK aV Q ls hz hx hb hml hown hts hE hret hI hl
  obtain ⟨H, eH⟩ : ∃ H, H = s.heap := ⟨_, rfl⟩
  obtain ⟨locs, eL⟩ : ∃ L : List Loc, L = [] := ⟨_, rfl⟩
  rw [← eH, ← eL] at hI ⊢
  have hl : lv_has ls 1 [(0, .ref o)] := hl
  unfold X7_fault at hf
  refine lv_aload_n hx hb dX7_fault_0 rfl (lv_at hl 0 rfl) ?_
  refine lv_iconst (v := (0 : Int32)) hx hb dX7_fault_1 (by decide) ?_
  obtain ⟨t2, et2, hf⟩ := obd hf
  refine tput hx hb hts hown hE hI 0 (by decide) q2100 rfl (tyX7_ok 0 (by decide)) rfl rfl rfl et2 dX7_fault_2 (fun H locs hI => ?_)
  refine lv_aload_n hx hb dX7_fault_5 rfl (lv_at hl 0 rfl) ?_
  refine tget hx hb hts hown hE hI 12 (by decide) q2112 rfl dX7_fault_6 ?_
  have hf := Prod.mk.inj (Option.some.inj hf)
  rw [hf.1]
  exact hret H locs 9 ls (hf.2 ▸ hI) dX7_fault_9


def X7_isParty (τ : Mm) (a1 : Int32) : Option (Int32) :=
  (X7_isIn a1 (0 : Int32) ((τ 0 3) - (1 : Int32))).bind fun x10 =>
  (zb x10).bind fun _ =>
  some x10
set_option maxHeartbeats 4000000 in
theorem mX7_isParty (τ : Mm) (a1 : Int32) (r : Int32) (hf : X7_isParty τ a1 = some r) : TMi yX7_isParty cX7_isParty 2 (some .boolean) 2 62 (fun aK => [.int a1]) r τ τ := by
  refine TMz.of (by decide) rfl (fun _ _ => Nat.le_of_ble_eq_true rfl) ?_
  intro p l e s m args below meth c D cI cZ o z aK aV Q ls hz hx hb hml hown hts hE hret hI hl
  obtain ⟨H, eH⟩ : ∃ H, H = s.heap := ⟨_, rfl⟩
  obtain ⟨locs, eL⟩ : ∃ L : List Loc, L = [] := ⟨_, rfl⟩
  rw [← eH, ← eL] at hI ⊢
  have hl : lv_has ls 2 [(0, .ref o), (1, .int a1)] := hl
  unfold X7_isParty at hf
  refine lv_iload_n hx hb dX7_isParty_0 rfl (lv_at hl 1 rfl) ?_
  refine lv_iconst (v := (0 : Int32)) hx hb dX7_isParty_1 (by decide) ?_
  refine lv_aload_n hx hb dX7_isParty_2 rfl (lv_at hl 0 rfl) ?_
  refine tget hx hb hts hown hE hI 1 (by decide) q2101 rfl dX7_isParty_3 ?_
  refine lv_iconst (v := (3 : Int32)) hx hb dX7_isParty_6 (by decide) ?_
  refine taldc hx hb hE hI 1 781 3 rfl (by decide) (by decide) dX7_isParty_7 ?_
  refine lv_iconst (v := (1 : Int32)) hx hb dX7_isParty_8 (by decide) ?_
  refine lv_isub hx hb dX7_isParty_9 ?_
  obtain ⟨x10, ex10, hf⟩ := obd hf
  refine tcallS (rest := []) hx hb hts hown hml hl.1 (mX7_isIn a1 (0 : Int32) ((τ 0 3) - (1 : Int32)) _ ex10) (cwX7_isIn hts ⟨Nat.le_of_ble_eq_true rfl, Nat.le_of_ble_eq_true rfl⟩) ⟨Nat.le_of_ble_eq_true rfl, Nat.le_of_ble_eq_true rfl⟩ rfl rfl (lv_room (Nat.le_of_ble_eq_true rfl)) dX7_isParty_10 ?_
  obtain ⟨_, eb13, hf⟩ := obd hf
  have hf := Option.some.inj hf
  rw [hf]
  exact hret H locs 13 ls hI (hf ▸ (zb_e eb13).2) dX7_isParty_13
theorem cwX7_isParty {R : Room} {s : State} {args : Array Value} {fr lo : Nat} (hts : ∀ w ∈ lw_all, w.before args s = true) (hR : fr + 1 ≤ R.frames ∧ 8 + (2 + 11) + lo ≤ R.locals) : CallW R s args RX7 RX7 306 yX7_isParty cX7_isParty 2 (some .boolean) (ws_ yX7_isParty cX7_isParty 2 (some .boolean)) ({ frames := fr, cells := 0, slots := 0, locals := lo }) 0 0 1 :=
  cwV 1 hts (lw_V q2362 q2364 qs89 q143 q2365) rfl rfl rfl (by decide +kernel) hR

def X7_coins (τ : Mm) (a1 : Int32) : Option (Int32) :=
  (ld 781 (τ 0) ((15 : Int32) + ((2 : Int32) * a1))).bind fun x10 =>
  some x10
set_option maxHeartbeats 4000000 in
theorem mX7_coins (τ : Mm) (a1 : Int32) (r : Int32) (hf : X7_coins τ a1 = some r) : TMi yX7_coins cX7_coins 2 (some .int) 1 40 (fun aK => [.int a1]) r τ τ := by
  refine TMi.of (by decide) rfl (fun _ _ => Nat.le_of_ble_eq_true rfl) ?_
  intro p l e s m args below meth c D cI cZ o z aK aV Q ls hz hx hb hml hown hts hE hret hI hl
  obtain ⟨H, eH⟩ : ∃ H, H = s.heap := ⟨_, rfl⟩
  obtain ⟨locs, eL⟩ : ∃ L : List Loc, L = [] := ⟨_, rfl⟩
  rw [← eH, ← eL] at hI ⊢
  have hl : lv_has ls 2 [(0, .ref o), (1, .int a1)] := hl
  unfold X7_coins at hf
  refine lv_aload_n hx hb dX7_coins_0 rfl (lv_at hl 0 rfl) ?_
  refine tget hx hb hts hown hE hI 1 (by decide) q2101 rfl dX7_coins_1 ?_
  refine lv_bipush (v := (15 : Int32)) hx hb dX7_coins_4 (by decide) ?_
  refine lv_iconst (v := (2 : Int32)) hx hb dX7_coins_6 (by decide) ?_
  refine lv_iload_n hx hb dX7_coins_7 rfl (lv_at hl 1 rfl) ?_
  refine lv_imul hx hb dX7_coins_8 ?_
  refine lv_iadd hx hb dX7_coins_9 ?_
  obtain ⟨x10, ex10, hf⟩ := obd hf
  refine tald hx hb hE hI 1 781 rfl ex10 dX7_coins_10 ?_
  have hf := Option.some.inj hf
  rw [hf]
  exact hret H locs 11 ls hI dX7_coins_11
theorem cwX7_coins {R : Room} {s : State} {args : Array Value} {fr lo : Nat} (hts : ∀ w ∈ lw_all, w.before args s = true) (hR : fr + 1 ≤ R.frames ∧ 8 + (2 + 11) + lo ≤ R.locals) : CallW R s args RX7 RX7 282 yX7_coins cX7_coins 2 (some .int) (ws_ yX7_coins cX7_coins 2 (some .int)) ({ frames := fr, cells := 0, slots := 0, locals := lo }) 0 0 1 :=
  cwV 1 hts (lw_V q2370 q2372 qs91 q143 q2373) rfl rfl rfl (by decide +kernel) hR

def X7_shareOf_L4 (τ : Mm) (c1 : Int32) (w4 : Int32 × Int32) : Option ((Int32 × Int32) ⊕ (Int32)) :=
  if (τ 0 3) ≤ w4.2 then
    some (.inr w4.1)
  else
    (X7_coins τ w4.2).bind fun x17 =>
    (some (w4.1 + x17)).bind fun v21 =>
    (some (w4.2 + (1 : Int32))).bind fun v22 =>
    some (.inl (v21, v22))
def X7_shareOf (τ : Mm) (a1 : Int32) : Option (Int32) :=
  (loopO (X7_shareOf_L4 τ a1) FU ((0 : Int32), (0 : Int32))).bind fun e4 =>
  if e4 = (0 : Int32) then
    some (0 : Int32)
  else
    (X7_coins τ a1).bind fun x40 =>
    (dnz e4).bind fun _ =>
    some (((100 : Int32) * x40) / e4)
set_option maxHeartbeats 4000000 in
theorem mX7_shareOf (τ : Mm) (a1 : Int32) (r : Int32) (hf : X7_shareOf τ a1 = some r) : TMi yX7_shareOf cX7_shareOf 4 (some .int) 2 61 (fun aK => [.int a1]) r τ τ := by
  refine TMi.of (by decide) rfl (fun _ _ => Nat.le_of_ble_eq_true rfl) ?_
  intro p l e s m args below meth c D cI cZ o z aK aV Q ls hz hx hb hml hown hts hE hret hI hl
  obtain ⟨H, eH⟩ : ∃ H, H = s.heap := ⟨_, rfl⟩
  obtain ⟨locs, eL⟩ : ∃ L : List Loc, L = [] := ⟨_, rfl⟩
  rw [← eH, ← eL] at hI ⊢
  have hl : lv_has ls 4 [(0, .ref o), (1, .int a1)] := hl
  unfold X7_shareOf at hf
  refine lv_iconst (v := (0 : Int32)) hx hb dX7_shareOf_0 (by decide) ?_
  refine lv_istore_n (lv' := [(2, .int (0 : Int32)), (0, .ref o), (1, .int a1)]) hx hb dX7_shareOf_1 rfl hl (by decide) rfl (fun ls hl => ?_)
  refine lv_iconst (v := (0 : Int32)) hx hb dX7_shareOf_2 (by decide) ?_
  refine lv_istore_n (lv' := [(3, .int (0 : Int32)), (2, .int (0 : Int32)), (0, .ref o), (1, .int a1)]) hx hb dX7_shareOf_3 rfl hl (by decide) rfl (fun ls hl => ?_)
  obtain ⟨e4, he4, hf⟩ := obd hf
  have hs4 : ∀ (c1 : Int32), ∀ (w4 : Int32 × Int32) (o4 : (Int32 × Int32) ⊕ (Int32)), X7_shareOf_L4 τ c1 w4 = some o4 → (∀ wx_, o4 = .inl wx_ → ∀ (H : Heap) (locs : List Loc) (ls : Array Slot), IT D cI cZ o s H locs τ → lv_has ls 4 [(0, .ref o), (1, .int c1), (2, .int wx_.1), (3, .int wx_.2)] → W p l e ({ frames := 2, cells := 0, slots := 0, locals := 61 } : Room) s m args below meth c H locs 0 0 Q (F0 m 4 ls [])) → (∀ ex_, o4 = .inr ex_ → ∀ (H : Heap) (locs : List Loc) (ls : Array Slot), IT D cI cZ o s H locs τ → lv_has ls 4 [(0, .ref o), (1, .int c1), (2, .int ex_)] → W p l e ({ frames := 2, cells := 0, slots := 0, locals := 61 } : Room) s m args below meth c H locs 0 0 Q (F0 m 28 ls [])) → ∀ (H : Heap) (locs : List Loc) (ls : Array Slot), IT D cI cZ o s H locs τ → lv_has ls 4 [(0, .ref o), (1, .int c1), (2, .int w4.1), (3, .int w4.2)] → W p l e ({ frames := 2, cells := 0, slots := 0, locals := 61 } : Room) s m args below meth c H locs 0 0 Q (F0 m 4 ls []) := by
    intro c1 w4 o4 hf hk hq H locs ls hI hl
    unfold X7_shareOf_L4 at hf
    refine lv_iload_n hx hb dX7_shareOf_4 rfl (lv_at hl 3 rfl) ?_
    refine lv_aload_n hx hb dX7_shareOf_5 rfl (lv_at hl 0 rfl) ?_
    refine tget hx hb hts hown hE hI 1 (by decide) q2101 rfl dX7_shareOf_6 ?_
    refine lv_iconst (v := (3 : Int32)) hx hb dX7_shareOf_9 (by decide) ?_
    refine taldc hx hb hE hI 1 781 3 rfl (by decide) (by decide) dX7_shareOf_10 ?_
    refine lv_icmp_ge (tgt := 28) hx hb dX7_shareOf_11 (by decide) (fun hc => ?_) (fun hc => ?_)
    · replace hf := ipos hc hf
      exact hq _ (Option.some.inj hf).symm H locs ls hI (lv_sub hl [0, 1, 2] rfl)
    · replace hf := ineg hc hf
      refine lv_iload_n hx hb dX7_shareOf_14 rfl (lv_at hl 2 rfl) ?_
      refine lv_aload_n hx hb dX7_shareOf_15 rfl (lv_at hl 0 rfl) ?_
      refine lv_iload_n hx hb dX7_shareOf_16 rfl (lv_at hl 3 rfl) ?_
      obtain ⟨x17, ex17, hf⟩ := obd hf
      refine tcallI (rest := [.int w4.1]) hx hb hts hown hE hz hI hml hl.1 (mX7_coins τ w4.2 _ ex17) (cwX7_coins hts ⟨Nat.le_of_ble_eq_true rfl, Nat.le_of_ble_eq_true rfl⟩) ⟨Nat.le_of_ble_eq_true rfl, Nat.le_of_ble_eq_true rfl⟩ rfl rfl (lv_room (Nat.le_of_ble_eq_true rfl)) dX7_shareOf_17 (fun H locs hI => ?_)
      refine lv_iadd hx hb dX7_shareOf_20 ?_
      obtain ⟨v21, ev21, hf⟩ := obd hf
      refine nmI ev21 ?_
      refine lv_istore_n (lv' := [(2, .int v21), (0, .ref o), (1, .int c1), (3, .int w4.2)]) hx hb dX7_shareOf_21 rfl hl (by decide) rfl (fun ls hl => ?_)
      obtain ⟨v22, ev22, hf⟩ := obd hf
      refine lv_iinc (v := v22) (lv' := [(3, .int v22), (2, .int v21), (0, .ref o), (1, .int c1)]) hx hb dX7_shareOf_22 hl (k := 3) rfl (iiE ev22 (by decide)) (by decide) rfl (fun ls hl => ?_)
      refine lv_goto (tgt := 4) hx hb dX7_shareOf_25 (by decide) ?_
      exact hk _ (Option.some.inj hf).symm H locs ls hI (lv_sub hl [2, 3, 1, 0] rfl)
  refine loopO_W (Wat := fun w4 => ∀ (H : Heap) (locs : List Loc) (ls : Array Slot), IT D cI cZ o s H locs τ → lv_has ls 4 [(0, .ref o), (1, .int a1), (2, .int w4.1), (3, .int w4.2)] → W p l e ({ frames := 2, cells := 0, slots := 0, locals := 61 } : Room) s m args below meth c H locs 0 0 Q (F0 m 4 ls [])) (Wex := fun ex_ => ∀ (H : Heap) (locs : List Loc) (ls : Array Slot), IT D cI cZ o s H locs τ → lv_has ls 4 [(0, .ref o), (1, .int a1), (2, .int ex_)] → W p l e ({ frames := 2, cells := 0, slots := 0, locals := 61 } : Room) s m args below meth c H locs 0 0 Q (F0 m 28 ls [])) (hs4 a1) FU _ e4 he4 ?_ H locs ls hI (lv_sub hl [2, 3, 1, 0] rfl)
  · skip
    intro H locs ls hI hl
    refine lv_iload_n hx hb dX7_shareOf_28 rfl (lv_at hl 2 rfl) ?_
    refine lv_if_ne (tgt := 36) hx hb dX7_shareOf_29 (by decide) (fun hc => ?_) (fun hc => ?_)
    · replace hf := ineg hc hf
      refine lv_bipush (v := (100 : Int32)) hx hb dX7_shareOf_36 (by decide) ?_
      refine lv_aload_n hx hb dX7_shareOf_38 rfl (lv_at hl 0 rfl) ?_
      refine lv_iload_n hx hb dX7_shareOf_39 rfl (lv_at hl 1 rfl) ?_
      obtain ⟨x40, ex40, hf⟩ := obd hf
      refine tcallI (rest := [.int (100 : Int32)]) hx hb hts hown hE hz hI hml hl.1 (mX7_coins τ a1 _ ex40) (cwX7_coins hts ⟨Nat.le_of_ble_eq_true rfl, Nat.le_of_ble_eq_true rfl⟩) ⟨Nat.le_of_ble_eq_true rfl, Nat.le_of_ble_eq_true rfl⟩ rfl rfl (lv_room (Nat.le_of_ble_eq_true rfl)) dX7_shareOf_40 (fun H locs hI => ?_)
      refine lv_imul hx hb dX7_shareOf_43 ?_
      refine lv_iload_n hx hb dX7_shareOf_44 rfl (lv_at hl 2 rfl) ?_
      obtain ⟨_, en45, hf⟩ := obd hf
      refine lv_idiv hx hb dX7_shareOf_45 (dnz_e en45).2 ?_
      have hf := Option.some.inj hf
      rw [hf]
      exact hret H locs 46 ls hI dX7_shareOf_46
    · replace hf := ipos hc hf
      refine lv_iconst (v := (0 : Int32)) hx hb dX7_shareOf_32 (by decide) ?_
      refine lv_goto (tgt := 46) hx hb dX7_shareOf_33 (by decide) ?_
      have hf := Option.some.inj hf
      rw [hf]
      exact hret H locs 46 ls hI dX7_shareOf_46
theorem cwX7_shareOf {R : Room} {s : State} {args : Array Value} {fr lo : Nat} (hts : ∀ w ∈ lw_all, w.before args s = true) (hR : fr + 1 ≤ R.frames ∧ 8 + (4 + 11) + lo ≤ R.locals) : CallW R s args RX7 RX7 309 yX7_shareOf cX7_shareOf 4 (some .int) (ws_ yX7_shareOf cX7_shareOf 4 (some .int)) ({ frames := fr, cells := 0, slots := 0, locals := lo }) 0 0 1 :=
  cwV 1 hts (lw_V q2366 q2368 qs90 q143 q2369) rfl rfl rfl (by decide +kernel) hR

def X7_of (τ : Mm) (a1 : Int32) (a2 : Int32) : Option (Int32) :=
  (ld 781 (τ 0) (((45 : Int32) + ((12 : Int32) * a1)) + a2)).bind fun x13 =>
  some x13
set_option maxHeartbeats 4000000 in
theorem mX7_of (τ : Mm) (a1 : Int32) (a2 : Int32) (r : Int32) (hf : X7_of τ a1 a2 = some r) : TMi yX7_of cX7_of 3 (some .int) 1 40 (fun aK => [.int a1, .int a2]) r τ τ := by
  refine TMi.of (by decide) rfl (fun _ _ => Nat.le_of_ble_eq_true rfl) ?_
  intro p l e s m args below meth c D cI cZ o z aK aV Q ls hz hx hb hml hown hts hE hret hI hl
  obtain ⟨H, eH⟩ : ∃ H, H = s.heap := ⟨_, rfl⟩
  obtain ⟨locs, eL⟩ : ∃ L : List Loc, L = [] := ⟨_, rfl⟩
  rw [← eH, ← eL] at hI ⊢
  have hl : lv_has ls 3 [(0, .ref o), (1, .int a1), (2, .int a2)] := hl
  unfold X7_of at hf
  refine lv_aload_n hx hb dX7_of_0 rfl (lv_at hl 0 rfl) ?_
  refine tget hx hb hts hown hE hI 1 (by decide) q2101 rfl dX7_of_1 ?_
  refine lv_bipush (v := (45 : Int32)) hx hb dX7_of_4 (by decide) ?_
  refine lv_bipush (v := (12 : Int32)) hx hb dX7_of_6 (by decide) ?_
  refine lv_iload_n hx hb dX7_of_8 rfl (lv_at hl 1 rfl) ?_
  refine lv_imul hx hb dX7_of_9 ?_
  refine lv_iadd hx hb dX7_of_10 ?_
  refine lv_iload_n hx hb dX7_of_11 rfl (lv_at hl 2 rfl) ?_
  refine lv_iadd hx hb dX7_of_12 ?_
  obtain ⟨x13, ex13, hf⟩ := obd hf
  refine tald hx hb hE hI 1 781 rfl ex13 dX7_of_13 ?_
  have hf := Option.some.inj hf
  rw [hf]
  exact hret H locs 14 ls hI dX7_of_14
theorem cwX7_of {R : Room} {s : State} {args : Array Value} {fr lo : Nat} (hts : ∀ w ∈ lw_all, w.before args s = true) (hR : fr + 1 ≤ R.frames ∧ 8 + (3 + 11) + lo ≤ R.locals) : CallW R s args RX7 RX7 52 yX7_of cX7_of 3 (some .int) (ws_ yX7_of cX7_of 3 (some .int)) ({ frames := fr, cells := 0, slots := 0, locals := lo }) 0 0 2 :=
  cwV 2 hts (lw_V q2382 q2384 qs94 q143 q2385) rfl rfl rfl (by decide +kernel) hR

def X7_inState_L4 (τ : Mm) (c1 : Int32) (w4 : Int32 × Int32) : Option ((Int32 × Int32) ⊕ (Int32)) :=
  if (τ 0 5) ≤ w4.2 then
    some (.inr w4.1)
  else
    (X7_of τ w4.2 (10 : Int32)).bind fun x19 =>
    if x19 = c1 then
      (some (w4.1 ||| ((1 : Int32) <<< (w4.2 &&& (31 : Int32))))).bind fun v34_4 =>
      (some (w4.2 + (1 : Int32))).bind fun v35_5 =>
      some (.inl (v34_4, v35_5))
    else
      (some (w4.1 ||| (0 : Int32))).bind fun v34 =>
      (some (w4.2 + (1 : Int32))).bind fun v35 =>
      some (.inl (v34, v35))
def X7_inState (τ : Mm) (a1 : Int32) : Option (Int32) :=
  (loopO (X7_inState_L4 τ a1) FU ((0 : Int32), (0 : Int32))).bind fun e4 =>
  some e4
set_option maxHeartbeats 4000000 in
theorem mX7_inState (τ : Mm) (a1 : Int32) (r : Int32) (hf : X7_inState τ a1 = some r) : TMi yX7_inState cX7_inState 4 (some .int) 2 62 (fun aK => [.int a1]) r τ τ := by
  refine TMi.of (by decide) rfl (fun _ _ => Nat.le_of_ble_eq_true rfl) ?_
  intro p l e s m args below meth c D cI cZ o z aK aV Q ls hz hx hb hml hown hts hE hret hI hl
  obtain ⟨H, eH⟩ : ∃ H, H = s.heap := ⟨_, rfl⟩
  obtain ⟨locs, eL⟩ : ∃ L : List Loc, L = [] := ⟨_, rfl⟩
  rw [← eH, ← eL] at hI ⊢
  have hl : lv_has ls 4 [(0, .ref o), (1, .int a1)] := hl
  unfold X7_inState at hf
  refine lv_iconst (v := (0 : Int32)) hx hb dX7_inState_0 (by decide) ?_
  refine lv_istore_n (lv' := [(2, .int (0 : Int32)), (0, .ref o), (1, .int a1)]) hx hb dX7_inState_1 rfl hl (by decide) rfl (fun ls hl => ?_)
  refine lv_iconst (v := (0 : Int32)) hx hb dX7_inState_2 (by decide) ?_
  refine lv_istore_n (lv' := [(3, .int (0 : Int32)), (2, .int (0 : Int32)), (0, .ref o), (1, .int a1)]) hx hb dX7_inState_3 rfl hl (by decide) rfl (fun ls hl => ?_)
  obtain ⟨e4, he4, hf⟩ := obd hf
  have hs4 : ∀ (c1 : Int32), ∀ (w4 : Int32 × Int32) (o4 : (Int32 × Int32) ⊕ (Int32)), X7_inState_L4 τ c1 w4 = some o4 → (∀ wx_, o4 = .inl wx_ → ∀ (H : Heap) (locs : List Loc) (ls : Array Slot), IT D cI cZ o s H locs τ → lv_has ls 4 [(0, .ref o), (1, .int c1), (2, .int wx_.1), (3, .int wx_.2)] → W p l e ({ frames := 2, cells := 0, slots := 0, locals := 62 } : Room) s m args below meth c H locs 0 0 Q (F0 m 4 ls [])) → (∀ ex_, o4 = .inr ex_ → ∀ (H : Heap) (locs : List Loc) (ls : Array Slot), IT D cI cZ o s H locs τ → lv_has ls 4 [(2, .int ex_)] → W p l e ({ frames := 2, cells := 0, slots := 0, locals := 62 } : Room) s m args below meth c H locs 0 0 Q (F0 m 41 ls [])) → ∀ (H : Heap) (locs : List Loc) (ls : Array Slot), IT D cI cZ o s H locs τ → lv_has ls 4 [(0, .ref o), (1, .int c1), (2, .int w4.1), (3, .int w4.2)] → W p l e ({ frames := 2, cells := 0, slots := 0, locals := 62 } : Room) s m args below meth c H locs 0 0 Q (F0 m 4 ls []) := by
    intro c1 w4 o4 hf hk hq H locs ls hI hl
    unfold X7_inState_L4 at hf
    refine lv_iload_n hx hb dX7_inState_4 rfl (lv_at hl 3 rfl) ?_
    refine lv_aload_n hx hb dX7_inState_5 rfl (lv_at hl 0 rfl) ?_
    refine tget hx hb hts hown hE hI 1 (by decide) q2101 rfl dX7_inState_6 ?_
    refine lv_iconst (v := (5 : Int32)) hx hb dX7_inState_9 (by decide) ?_
    refine taldc hx hb hE hI 1 781 5 rfl (by decide) (by decide) dX7_inState_10 ?_
    refine lv_icmp_ge (tgt := 41) hx hb dX7_inState_11 (by decide) (fun hc => ?_) (fun hc => ?_)
    · replace hf := ipos hc hf
      exact hq _ (Option.some.inj hf).symm H locs ls hI (lv_sub hl [2] rfl)
    · replace hf := ineg hc hf
      refine lv_iload_n hx hb dX7_inState_14 rfl (lv_at hl 2 rfl) ?_
      refine lv_aload_n hx hb dX7_inState_15 rfl (lv_at hl 0 rfl) ?_
      refine lv_iload_n hx hb dX7_inState_16 rfl (lv_at hl 3 rfl) ?_
      refine lv_bipush (v := (10 : Int32)) hx hb dX7_inState_17 (by decide) ?_
      obtain ⟨x19, ex19, hf⟩ := obd hf
      refine tcallI (rest := [.int w4.1]) hx hb hts hown hE hz hI hml hl.1 (mX7_of τ w4.2 (10 : Int32) _ ex19) (cwX7_of hts ⟨Nat.le_of_ble_eq_true rfl, Nat.le_of_ble_eq_true rfl⟩) ⟨Nat.le_of_ble_eq_true rfl, Nat.le_of_ble_eq_true rfl⟩ rfl rfl (lv_room (Nat.le_of_ble_eq_true rfl)) dX7_inState_19 (fun H locs hI => ?_)
      refine lv_iload_n hx hb dX7_inState_22 rfl (lv_at hl 1 rfl) ?_
      refine lv_icmp_ne (tgt := 32) hx hb dX7_inState_23 (by decide) (fun hc => ?_) (fun hc => ?_)
      · replace hf := ineg hc hf
        refine lv_iconst (v := (0 : Int32)) hx hb dX7_inState_32 (by decide) ?_
        refine lv_ior hx hb dX7_inState_33 ?_
        obtain ⟨v34, ev34, hf⟩ := obd hf
        refine nmI ev34 ?_
        refine lv_istore_n (lv' := [(2, .int v34), (0, .ref o), (1, .int c1), (3, .int w4.2)]) hx hb dX7_inState_34 rfl hl (by decide) rfl (fun ls hl => ?_)
        obtain ⟨v35, ev35, hf⟩ := obd hf
        refine lv_iinc (v := v35) (lv' := [(3, .int v35), (2, .int v34), (0, .ref o), (1, .int c1)]) hx hb dX7_inState_35 hl (k := 3) rfl (iiE ev35 (by decide)) (by decide) rfl (fun ls hl => ?_)
        refine lv_goto (tgt := 4) hx hb dX7_inState_38 (by decide) ?_
        exact hk _ (Option.some.inj hf).symm H locs ls hI (lv_sub hl [2, 3, 1, 0] rfl)
      · replace hf := ipos hc hf
        refine lv_iconst (v := (1 : Int32)) hx hb dX7_inState_26 (by decide) ?_
        refine lv_iload_n hx hb dX7_inState_27 rfl (lv_at hl 3 rfl) ?_
        refine lv_ishl hx hb dX7_inState_28 ?_
        refine lv_goto (tgt := 33) hx hb dX7_inState_29 (by decide) ?_
        refine lv_ior hx hb dX7_inState_33 ?_
        obtain ⟨v34_4, ev34_4, hf⟩ := obd hf
        refine nmI ev34_4 ?_
        refine lv_istore_n (lv' := [(2, .int v34_4), (0, .ref o), (1, .int c1), (3, .int w4.2)]) hx hb dX7_inState_34 rfl hl (by decide) rfl (fun ls hl => ?_)
        obtain ⟨v35_5, ev35_5, hf⟩ := obd hf
        refine lv_iinc (v := v35_5) (lv' := [(3, .int v35_5), (2, .int v34_4), (0, .ref o), (1, .int c1)]) hx hb dX7_inState_35 hl (k := 3) rfl (iiE ev35_5 (by decide)) (by decide) rfl (fun ls hl => ?_)
        refine lv_goto (tgt := 4) hx hb dX7_inState_38 (by decide) ?_
        exact hk _ (Option.some.inj hf).symm H locs ls hI (lv_sub hl [2, 3, 1, 0] rfl)
  refine loopO_W (Wat := fun w4 => ∀ (H : Heap) (locs : List Loc) (ls : Array Slot), IT D cI cZ o s H locs τ → lv_has ls 4 [(0, .ref o), (1, .int a1), (2, .int w4.1), (3, .int w4.2)] → W p l e ({ frames := 2, cells := 0, slots := 0, locals := 62 } : Room) s m args below meth c H locs 0 0 Q (F0 m 4 ls [])) (Wex := fun ex_ => ∀ (H : Heap) (locs : List Loc) (ls : Array Slot), IT D cI cZ o s H locs τ → lv_has ls 4 [(2, .int ex_)] → W p l e ({ frames := 2, cells := 0, slots := 0, locals := 62 } : Room) s m args below meth c H locs 0 0 Q (F0 m 41 ls [])) (hs4 a1) FU _ e4 he4 ?_ H locs ls hI (lv_sub hl [2, 3, 1, 0] rfl)
  · skip
    intro H locs ls hI hl
    refine lv_iload_n hx hb dX7_inState_41 rfl (lv_at hl 0 rfl) ?_
    have hf := Option.some.inj hf
    rw [hf]
    exact hret H locs 42 ls hI dX7_inState_42
theorem cwX7_inState {R : Room} {s : State} {args : Array Value} {fr lo : Nat} (hts : ∀ w ∈ lw_all, w.before args s = true) (hR : fr + 1 ≤ R.frames ∧ 8 + (4 + 11) + lo ≤ R.locals) : CallW R s args RX7 RX7 60 yX7_inState cX7_inState 4 (some .int) (ws_ yX7_inState cX7_inState 4 (some .int)) ({ frames := fr, cells := 0, slots := 0, locals := lo }) 0 0 1 :=
  cwV 1 hts (lw_V q2378 q2380 qs93 q143 q2381) rfl rfl rfl (by decide +kernel) hR

def X7_isOf (a0 : Int32) (a1 : Int32) : Option (Int32) :=
  if ((a0 >>> (a1 &&& (31 : Int32))) &&& (1 : Int32)) = (1 : Int32) then
    some (1 : Int32)
  else
    some (0 : Int32)
set_option maxHeartbeats 4000000 in
theorem mX7_isOf (a0 : Int32) (a1 : Int32) (r : Int32) (hf : X7_isOf a0 a1 = some r) : SMi yX7_isOf cX7_isOf 2 (some .boolean) 1 40 [.int a0, .int a1] r := by
  refine SMz.of (by decide) (Nat.le_of_ble_eq_true rfl) ?_
  intro p l e s m args below meth c Q ls hx hb hml hown hts hret hl
  have hl : lv_has ls 2 [(0, .int a0), (1, .int a1)] := hl
  unfold X7_isOf at hf
  refine lv_iload_n hx hb dX7_isOf_0 rfl (lv_at hl 0 rfl) ?_
  refine lv_iload_n hx hb dX7_isOf_1 rfl (lv_at hl 1 rfl) ?_
  refine lv_ishr hx hb dX7_isOf_2 ?_
  refine lv_iconst (v := (1 : Int32)) hx hb dX7_isOf_3 (by decide) ?_
  refine lv_iand hx hb dX7_isOf_4 ?_
  refine lv_iconst (v := (1 : Int32)) hx hb dX7_isOf_5 (by decide) ?_
  refine lv_icmp_ne (tgt := 13) hx hb dX7_isOf_6 (by decide) (fun hc => ?_) (fun hc => ?_)
  · replace hf := ineg hc hf
    refine lv_iconst (v := (0 : Int32)) hx hb dX7_isOf_13 (by decide) ?_
    have hf := Option.some.inj hf
    rw [hf]
    exact hret 14 ls (hf ▸ (by decide)) dX7_isOf_14
  · replace hf := ipos hc hf
    refine lv_iconst (v := (1 : Int32)) hx hb dX7_isOf_9 (by decide) ?_
    refine lv_goto (tgt := 14) hx hb dX7_isOf_10 (by decide) ?_
    have hf := Option.some.inj hf
    rw [hf]
    exact hret 14 ls (hf ▸ (by decide)) dX7_isOf_14
theorem cwX7_isOf {R : Room} {s : State} {args : Array Value} {fr lo : Nat} (hts : ∀ w ∈ lw_all, w.before args s = true) (hR : fr + 1 ≤ R.frames ∧ 8 + (2 + 11) + lo ≤ R.locals) : CallB R s args RX7 56 yX7_isOf cX7_isOf 2 (some .boolean) (ws_ yX7_isOf cX7_isOf 2 (some .boolean)) ({ frames := fr, cells := 0, slots := 0, locals := lo }) 0 0 2 ∧ (Cond.static yX7_isOf).before args s = true :=
  va_cwS 2 hts (lw_S q2394 q2395 q143 q2396) rfl rfl rfl (by decide +kernel) hR

def X7_isValid_J38 (τ : Mm) (a1 : Int32) (a2 : Int32) (y0 : Int32) : Option (Int32) :=
  if y0 = (0 : Int32) then
    some (0 : Int32)
  else
    (X7_of τ a1 (6 : Int32)).bind fun x47 =>
    if x47 = (-1 : Int32) then
      some (1 : Int32)
    else
      (X7_of τ a1 (6 : Int32)).bind fun x59 =>
      (X7_isOf a2 x59).bind fun x62 =>
      if x62 = (0 : Int32) then
        some (1 : Int32)
      else
        some (0 : Int32)
def X7_isValid_J33 (τ : Mm) (a1 : Int32) (a2 : Int32) : Option (Int32) :=
  X7_isValid_J38 τ a1 a2 (1 : Int32)
def X7_isValid (τ : Mm) (a1 : Int32) (a2 : Int32) : Option (Int32) :=
  (X7_isOf a2 a1).bind fun x2 =>
  if x2 = (0 : Int32) then
    some (0 : Int32)
  else
    (X7_of τ a1 (5 : Int32)).bind fun x13 =>
    if x13 = (-1 : Int32) then
      X7_isValid_J33 τ a1 a2
    else
      (X7_of τ a1 (5 : Int32)).bind fun x24 =>
      (X7_isOf a2 x24).bind fun x27 =>
      if x27 = (0 : Int32) then
        X7_isValid_J38 τ a1 a2 (0 : Int32)
      else
        X7_isValid_J33 τ a1 a2
set_option maxHeartbeats 4000000 in
theorem mX7_isValid (τ : Mm) (a1 : Int32) (a2 : Int32) (r : Int32) (hf : X7_isValid τ a1 a2 = some r) : TMi yX7_isValid cX7_isValid 4 (some .boolean) 2 62 (fun aK => [.int a1, .int a2]) r τ τ := by
  refine TMz.of (by decide) rfl (fun _ _ => Nat.le_of_ble_eq_true rfl) ?_
  intro p l e s m args below meth c D cI cZ o z aK aV Q ls hz hx hb hml hown hts hE hret hI hl
  obtain ⟨H, eH⟩ : ∃ H, H = s.heap := ⟨_, rfl⟩
  obtain ⟨locs, eL⟩ : ∃ L : List Loc, L = [] := ⟨_, rfl⟩
  rw [← eH, ← eL] at hI ⊢
  have hl : lv_has ls 4 [(0, .ref o), (1, .int a1), (2, .int a2)] := hl
  unfold X7_isValid at hf
  have hJ38 : ∀ (y0 : Int32) (H : Heap) (locs : List Loc) (ls : Array Slot), X7_isValid_J38 τ a1 a2 y0 = some r → IT D cI cZ o s H locs τ → lv_has ls 4 [(0, .ref o), (1, .int a1), (2, .int a2)] → W p l e ({ frames := 2, cells := 0, slots := 0, locals := 62 } : Room) s m args below meth c H locs 0 0 Q (F0 m 38 ls [.int y0]) := by
    intro y0 H locs ls hf hI hl
    unfold X7_isValid_J38 at hf
    refine lv_istore_n (lv' := [(3, .int y0), (0, .ref o), (1, .int a1), (2, .int a2)]) hx hb dX7_isValid_38 rfl hl (by decide) rfl (fun ls hl => ?_)
    refine lv_iload_n hx hb dX7_isValid_39 rfl (lv_at hl 0 rfl) ?_
    refine lv_if_eq (tgt := 72) hx hb dX7_isValid_40 (by decide) (fun hc => ?_) (fun hc => ?_)
    · replace hf := ipos hc hf
      refine lv_iconst (v := (0 : Int32)) hx hb dX7_isValid_72 (by decide) ?_
      have hf := Option.some.inj hf
      rw [hf]
      exact hret H locs 73 ls hI (hf ▸ (by decide)) dX7_isValid_73
    · replace hf := ineg hc hf
      refine lv_aload_n hx hb dX7_isValid_43 rfl (lv_at hl 1 rfl) ?_
      refine lv_iload_n hx hb dX7_isValid_44 rfl (lv_at hl 2 rfl) ?_
      refine lv_bipush (v := (6 : Int32)) hx hb dX7_isValid_45 (by decide) ?_
      obtain ⟨x47, ex47, hf⟩ := obd hf
      refine tcallI (rest := []) hx hb hts hown hE hz hI hml hl.1 (mX7_of τ a1 (6 : Int32) _ ex47) (cwX7_of hts ⟨Nat.le_of_ble_eq_true rfl, Nat.le_of_ble_eq_true rfl⟩) ⟨Nat.le_of_ble_eq_true rfl, Nat.le_of_ble_eq_true rfl⟩ rfl rfl (lv_room (Nat.le_of_ble_eq_true rfl)) dX7_isValid_47 (fun H locs hI => ?_)
      refine lv_iconst (v := (-1 : Int32)) hx hb dX7_isValid_50 (by decide) ?_
      refine lv_icmp_eq (tgt := 68) hx hb dX7_isValid_51 (by decide) (fun hc => ?_) (fun hc => ?_)
      · replace hf := ipos hc hf
        refine lv_iconst (v := (1 : Int32)) hx hb dX7_isValid_68 (by decide) ?_
        refine lv_goto (tgt := 73) hx hb dX7_isValid_69 (by decide) ?_
        have hf := Option.some.inj hf
        rw [hf]
        exact hret H locs 73 ls hI (hf ▸ (by decide)) dX7_isValid_73
      · replace hf := ineg hc hf
        refine lv_iload_n hx hb dX7_isValid_54 rfl (lv_at hl 3 rfl) ?_
        refine lv_aload_n hx hb dX7_isValid_55 rfl (lv_at hl 1 rfl) ?_
        refine lv_iload_n hx hb dX7_isValid_56 rfl (lv_at hl 2 rfl) ?_
        refine lv_bipush (v := (6 : Int32)) hx hb dX7_isValid_57 (by decide) ?_
        obtain ⟨x59, ex59, hf⟩ := obd hf
        refine tcallI (rest := [.int a2]) hx hb hts hown hE hz hI hml hl.1 (mX7_of τ a1 (6 : Int32) _ ex59) (cwX7_of hts ⟨Nat.le_of_ble_eq_true rfl, Nat.le_of_ble_eq_true rfl⟩) ⟨Nat.le_of_ble_eq_true rfl, Nat.le_of_ble_eq_true rfl⟩ rfl rfl (lv_room (Nat.le_of_ble_eq_true rfl)) dX7_isValid_59 (fun H locs hI => ?_)
        obtain ⟨x62, ex62, hf⟩ := obd hf
        refine tcallS (rest := []) hx hb hts hown hml hl.1 (mX7_isOf a2 x59 _ ex62) (cwX7_isOf hts ⟨Nat.le_of_ble_eq_true rfl, Nat.le_of_ble_eq_true rfl⟩) ⟨Nat.le_of_ble_eq_true rfl, Nat.le_of_ble_eq_true rfl⟩ rfl rfl (lv_room (Nat.le_of_ble_eq_true rfl)) dX7_isValid_62 ?_
        refine lv_if_ne (tgt := 72) hx hb dX7_isValid_65 (by decide) (fun hc => ?_) (fun hc => ?_)
        · replace hf := ineg hc hf
          refine lv_iconst (v := (0 : Int32)) hx hb dX7_isValid_72 (by decide) ?_
          have hf := Option.some.inj hf
          rw [hf]
          exact hret H locs 73 ls hI (hf ▸ (by decide)) dX7_isValid_73
        · replace hf := ipos hc hf
          refine lv_iconst (v := (1 : Int32)) hx hb dX7_isValid_68 (by decide) ?_
          refine lv_goto (tgt := 73) hx hb dX7_isValid_69 (by decide) ?_
          have hf := Option.some.inj hf
          rw [hf]
          exact hret H locs 73 ls hI (hf ▸ (by decide)) dX7_isValid_73
  have hJ33 : ∀ (H : Heap) (locs : List Loc) (ls : Array Slot), X7_isValid_J33 τ a1 a2 = some r → IT D cI cZ o s H locs τ → lv_has ls 4 [(0, .ref o), (1, .int a1), (2, .int a2)] → W p l e ({ frames := 2, cells := 0, slots := 0, locals := 62 } : Room) s m args below meth c H locs 0 0 Q (F0 m 33 ls []) := by
    intro  H locs ls hf hI hl
    unfold X7_isValid_J33 at hf
    refine lv_iconst (v := (1 : Int32)) hx hb dX7_isValid_33 (by decide) ?_
    refine lv_goto (tgt := 38) hx hb dX7_isValid_34 (by decide) ?_
    exact hJ38 (1 : Int32) H locs ls hf hI  (lv_sub hl [0, 1, 2] rfl)
  refine lv_iload_n hx hb dX7_isValid_0 rfl (lv_at hl 2 rfl) ?_
  refine lv_iload_n hx hb dX7_isValid_1 rfl (lv_at hl 1 rfl) ?_
  obtain ⟨x2, ex2, hf⟩ := obd hf
  refine tcallS (rest := []) hx hb hts hown hml hl.1 (mX7_isOf a2 a1 _ ex2) (cwX7_isOf hts ⟨Nat.le_of_ble_eq_true rfl, Nat.le_of_ble_eq_true rfl⟩) ⟨Nat.le_of_ble_eq_true rfl, Nat.le_of_ble_eq_true rfl⟩ rfl rfl (lv_room (Nat.le_of_ble_eq_true rfl)) dX7_isValid_2 ?_
  refine lv_if_ne (tgt := 10) hx hb dX7_isValid_5 (by decide) (fun hc => ?_) (fun hc => ?_)
  · replace hf := ineg hc hf
    refine lv_aload_n hx hb dX7_isValid_10 rfl (lv_at hl 0 rfl) ?_
    refine lv_iload_n hx hb dX7_isValid_11 rfl (lv_at hl 1 rfl) ?_
    refine lv_iconst (v := (5 : Int32)) hx hb dX7_isValid_12 (by decide) ?_
    obtain ⟨x13, ex13, hf⟩ := obd hf
    refine tcallI (rest := []) hx hb hts hown hE hz hI hml hl.1 (mX7_of τ a1 (5 : Int32) _ ex13) (cwX7_of hts ⟨Nat.le_of_ble_eq_true rfl, Nat.le_of_ble_eq_true rfl⟩) ⟨Nat.le_of_ble_eq_true rfl, Nat.le_of_ble_eq_true rfl⟩ rfl rfl (lv_room (Nat.le_of_ble_eq_true rfl)) dX7_isValid_13 (fun H locs hI => ?_)
    refine lv_iconst (v := (-1 : Int32)) hx hb dX7_isValid_16 (by decide) ?_
    refine lv_icmp_eq (tgt := 33) hx hb dX7_isValid_17 (by decide) (fun hc => ?_) (fun hc => ?_)
    · replace hf := ipos hc hf
      exact hJ33 H locs ls hf hI  (lv_sub hl [0, 1, 2] rfl)
    · replace hf := ineg hc hf
      refine lv_iload_n hx hb dX7_isValid_20 rfl (lv_at hl 2 rfl) ?_
      refine lv_aload_n hx hb dX7_isValid_21 rfl (lv_at hl 0 rfl) ?_
      refine lv_iload_n hx hb dX7_isValid_22 rfl (lv_at hl 1 rfl) ?_
      refine lv_iconst (v := (5 : Int32)) hx hb dX7_isValid_23 (by decide) ?_
      obtain ⟨x24, ex24, hf⟩ := obd hf
      refine tcallI (rest := [.int a2]) hx hb hts hown hE hz hI hml hl.1 (mX7_of τ a1 (5 : Int32) _ ex24) (cwX7_of hts ⟨Nat.le_of_ble_eq_true rfl, Nat.le_of_ble_eq_true rfl⟩) ⟨Nat.le_of_ble_eq_true rfl, Nat.le_of_ble_eq_true rfl⟩ rfl rfl (lv_room (Nat.le_of_ble_eq_true rfl)) dX7_isValid_24 (fun H locs hI => ?_)
      obtain ⟨x27, ex27, hf⟩ := obd hf
      refine tcallS (rest := []) hx hb hts hown hml hl.1 (mX7_isOf a2 x24 _ ex27) (cwX7_isOf hts ⟨Nat.le_of_ble_eq_true rfl, Nat.le_of_ble_eq_true rfl⟩) ⟨Nat.le_of_ble_eq_true rfl, Nat.le_of_ble_eq_true rfl⟩ rfl rfl (lv_room (Nat.le_of_ble_eq_true rfl)) dX7_isValid_27 ?_
      refine lv_if_eq (tgt := 37) hx hb dX7_isValid_30 (by decide) (fun hc => ?_) (fun hc => ?_)
      · replace hf := ipos hc hf
        refine lv_iconst (v := (0 : Int32)) hx hb dX7_isValid_37 (by decide) ?_
        exact hJ38 (0 : Int32) H locs ls hf hI  (lv_sub hl [0, 1, 2] rfl)
      · replace hf := ineg hc hf
        exact hJ33 H locs ls hf hI  (lv_sub hl [0, 1, 2] rfl)
  · replace hf := ipos hc hf
    refine lv_iconst (v := (0 : Int32)) hx hb dX7_isValid_8 (by decide) ?_
    have hf := Option.some.inj hf
    rw [hf]
    exact hret H locs 9 ls hI (hf ▸ (by decide)) dX7_isValid_9
theorem cwX7_isValid {R : Room} {s : State} {args : Array Value} {fr lo : Nat} (hts : ∀ w ∈ lw_all, w.before args s = true) (hR : fr + 1 ≤ R.frames ∧ 8 + (4 + 11) + lo ≤ R.locals) : CallW R s args RX7 RX7 64 yX7_isValid cX7_isValid 4 (some .boolean) (ws_ yX7_isValid cX7_isValid 4 (some .boolean)) ({ frames := fr, cells := 0, slots := 0, locals := lo }) 0 0 2 :=
  cwV 2 hts (lw_V q2390 q2392 qs96 q143 q2393) rfl rfl rfl (by decide +kernel) hR

def X7_netOf_L20 (τ : Mm) (c1 : Int32) (c3 : Int32) (w20 : Int32 × Int32) : Option ((Int32 × Int32) ⊕ (Int32)) :=
  if (τ 0 5) ≤ w20.2 then
    some (.inr w20.1)
  else
    (X7_of τ w20.2 (11 : Int32)).bind fun x36 =>
    if x36 = (1 : Int32) then
      (some (w20.2 + (1 : Int32))).bind fun v105 =>
      some (.inl (w20.1, v105))
    else
      (X7_isValid τ w20.2 c3).bind fun x47 =>
      if x47 = (0 : Int32) then
        (some (w20.2 + (1 : Int32))).bind fun v105_17 =>
        some (.inl (w20.1, v105_17))
      else
        (X7_of τ w20.2 (2 : Int32)).bind fun x62 =>
        if x62 = c1 then
          (X7_of τ w20.2 (3 : Int32)).bind fun x73 =>
          (some (w20.1 + x73)).bind fun v103_15 =>
          (some (w20.2 + (1 : Int32))).bind fun v105_16 =>
          some (.inl (v103_15, v105_16))
        else
          (X7_of τ w20.2 (1 : Int32)).bind fun x83 =>
          if x83 = c1 then
            (X7_of τ w20.2 (3 : Int32)).bind fun x94 =>
            (some (w20.1 + (-x94))).bind fun v103_12 =>
            (some (w20.2 + (1 : Int32))).bind fun v105_13 =>
            some (.inl (v103_12, v105_13))
          else
            (some (w20.1 + (0 : Int32))).bind fun v103 =>
            (some (w20.2 + (1 : Int32))).bind fun v105_10 =>
            some (.inl (v103, v105_10))
def X7_netOf (τ : Mm) (a1 : Int32) (a2 : Int32) : Option (Int32) :=
  (X7_inState τ (1 : Int32)).bind fun x2 =>
  (X7_inState τ (0 : Int32)).bind fun x8 =>
  (some (x2 ||| (a2 &&& x8))).bind fun v13 =>
  (loopO (X7_netOf_L20 τ a1 v13) FU ((0 : Int32), (0 : Int32))).bind fun e20 =>
  some e20
set_option maxHeartbeats 4000000 in
theorem mX7_netOf (τ : Mm) (a1 : Int32) (a2 : Int32) (r : Int32) (hf : X7_netOf τ a1 a2 = some r) : TMi yX7_netOf cX7_netOf 6 (some .int) 3 85 (fun aK => [.int a1, .int a2]) r τ τ := by
  refine TMi.of (by decide) rfl (fun _ _ => Nat.le_of_ble_eq_true rfl) ?_
  intro p l e s m args below meth c D cI cZ o z aK aV Q ls hz hx hb hml hown hts hE hret hI hl
  obtain ⟨H, eH⟩ : ∃ H, H = s.heap := ⟨_, rfl⟩
  obtain ⟨locs, eL⟩ : ∃ L : List Loc, L = [] := ⟨_, rfl⟩
  rw [← eH, ← eL] at hI ⊢
  have hl : lv_has ls 6 [(0, .ref o), (1, .int a1), (2, .int a2)] := hl
  unfold X7_netOf at hf
  refine lv_aload_n hx hb dX7_netOf_0 rfl (lv_at hl 0 rfl) ?_
  refine lv_iconst (v := (1 : Int32)) hx hb dX7_netOf_1 (by decide) ?_
  obtain ⟨x2, ex2, hf⟩ := obd hf
  refine tcallI (rest := []) hx hb hts hown hE hz hI hml hl.1 (mX7_inState τ (1 : Int32) _ ex2) (cwX7_inState hts ⟨Nat.le_of_ble_eq_true rfl, Nat.le_of_ble_eq_true rfl⟩) ⟨Nat.le_of_ble_eq_true rfl, Nat.le_of_ble_eq_true rfl⟩ rfl rfl (lv_room (Nat.le_of_ble_eq_true rfl)) dX7_netOf_2 (fun H locs hI => ?_)
  refine lv_iload_n hx hb dX7_netOf_5 rfl (lv_at hl 2 rfl) ?_
  refine lv_aload_n hx hb dX7_netOf_6 rfl (lv_at hl 0 rfl) ?_
  refine lv_iconst (v := (0 : Int32)) hx hb dX7_netOf_7 (by decide) ?_
  obtain ⟨x8, ex8, hf⟩ := obd hf
  refine tcallI (rest := [.int a2, .int x2]) hx hb hts hown hE hz hI hml hl.1 (mX7_inState τ (0 : Int32) _ ex8) (cwX7_inState hts ⟨Nat.le_of_ble_eq_true rfl, Nat.le_of_ble_eq_true rfl⟩) ⟨Nat.le_of_ble_eq_true rfl, Nat.le_of_ble_eq_true rfl⟩ rfl rfl (lv_room (Nat.le_of_ble_eq_true rfl)) dX7_netOf_8 (fun H locs hI => ?_)
  refine lv_iand hx hb dX7_netOf_11 ?_
  refine lv_ior hx hb dX7_netOf_12 ?_
  obtain ⟨v13, ev13, hf⟩ := obd hf
  refine nmI ev13 ?_
  refine lv_istore_n (lv' := [(3, .int v13), (0, .ref o), (1, .int a1), (2, .int a2)]) hx hb dX7_netOf_13 rfl hl (by decide) rfl (fun ls hl => ?_)
  refine lv_iconst (v := (0 : Int32)) hx hb dX7_netOf_14 (by decide) ?_
  refine lv_istore (lv' := [(4, .int (0 : Int32)), (3, .int v13), (0, .ref o), (1, .int a1), (2, .int a2)]) hx hb dX7_netOf_15 hl (by decide) rfl (fun ls hl => ?_)
  refine lv_iconst (v := (0 : Int32)) hx hb dX7_netOf_17 (by decide) ?_
  refine lv_istore (lv' := [(5, .int (0 : Int32)), (4, .int (0 : Int32)), (3, .int v13), (0, .ref o), (1, .int a1), (2, .int a2)]) hx hb dX7_netOf_18 hl (by decide) rfl (fun ls hl => ?_)
  obtain ⟨e20, he20, hf⟩ := obd hf
  have hs20 : ∀ (c1 : Int32) (c3 : Int32), ∀ (w20 : Int32 × Int32) (o20 : (Int32 × Int32) ⊕ (Int32)), X7_netOf_L20 τ c1 c3 w20 = some o20 → (∀ wx_, o20 = .inl wx_ → ∀ (H : Heap) (locs : List Loc) (ls : Array Slot), IT D cI cZ o s H locs τ → lv_has ls 6 [(0, .ref o), (1, .int c1), (3, .int c3), (4, .int wx_.1), (5, .int wx_.2)] → W p l e ({ frames := 3, cells := 0, slots := 0, locals := 85 } : Room) s m args below meth c H locs 0 0 Q (F0 m 20 ls [])) → (∀ ex_, o20 = .inr ex_ → ∀ (H : Heap) (locs : List Loc) (ls : Array Slot), IT D cI cZ o s H locs τ → lv_has ls 6 [(4, .int ex_)] → W p l e ({ frames := 3, cells := 0, slots := 0, locals := 85 } : Room) s m args below meth c H locs 0 0 Q (F0 m 111 ls [])) → ∀ (H : Heap) (locs : List Loc) (ls : Array Slot), IT D cI cZ o s H locs τ → lv_has ls 6 [(0, .ref o), (1, .int c1), (3, .int c3), (4, .int w20.1), (5, .int w20.2)] → W p l e ({ frames := 3, cells := 0, slots := 0, locals := 85 } : Room) s m args below meth c H locs 0 0 Q (F0 m 20 ls []) := by
    intro c1 c3 w20 o20 hf hk hq H locs ls hI hl
    unfold X7_netOf_L20 at hf
    refine lv_iload hx hb dX7_netOf_20 (lv_at hl 4 rfl) ?_
    refine lv_aload_n hx hb dX7_netOf_22 rfl (lv_at hl 0 rfl) ?_
    refine tget hx hb hts hown hE hI 1 (by decide) q2101 rfl dX7_netOf_23 ?_
    refine lv_iconst (v := (5 : Int32)) hx hb dX7_netOf_26 (by decide) ?_
    refine taldc hx hb hE hI 1 781 5 rfl (by decide) (by decide) dX7_netOf_27 ?_
    refine lv_icmp_ge (tgt := 111) hx hb dX7_netOf_28 (by decide) (fun hc => ?_) (fun hc => ?_)
    · replace hf := ipos hc hf
      exact hq _ (Option.some.inj hf).symm H locs ls hI (lv_sub hl [3] rfl)
    · replace hf := ineg hc hf
      refine lv_aload_n hx hb dX7_netOf_31 rfl (lv_at hl 0 rfl) ?_
      refine lv_iload hx hb dX7_netOf_32 (lv_at hl 4 rfl) ?_
      refine lv_bipush (v := (11 : Int32)) hx hb dX7_netOf_34 (by decide) ?_
      obtain ⟨x36, ex36, hf⟩ := obd hf
      refine tcallI (rest := []) hx hb hts hown hE hz hI hml hl.1 (mX7_of τ w20.2 (11 : Int32) _ ex36) (cwX7_of hts ⟨Nat.le_of_ble_eq_true rfl, Nat.le_of_ble_eq_true rfl⟩) ⟨Nat.le_of_ble_eq_true rfl, Nat.le_of_ble_eq_true rfl⟩ rfl rfl (lv_room (Nat.le_of_ble_eq_true rfl)) dX7_netOf_36 (fun H locs hI => ?_)
      refine lv_iconst (v := (1 : Int32)) hx hb dX7_netOf_39 (by decide) ?_
      refine lv_icmp_eq (tgt := 105) hx hb dX7_netOf_40 (by decide) (fun hc => ?_) (fun hc => ?_)
      · replace hf := ipos hc hf
        obtain ⟨v105, ev105, hf⟩ := obd hf
        refine lv_iinc (v := v105) (lv' := [(5, .int v105), (0, .ref o), (1, .int c1), (3, .int c3), (4, .int w20.1)]) hx hb dX7_netOf_105 hl (k := 4) rfl (iiE ev105 (by decide)) (by decide) rfl (fun ls hl => ?_)
        refine lv_goto (tgt := 20) hx hb dX7_netOf_108 (by decide) ?_
        exact hk _ (Option.some.inj hf).symm H locs ls hI (lv_sub hl [1, 2, 3, 4, 0] rfl)
      · replace hf := ineg hc hf
        refine lv_aload_n hx hb dX7_netOf_43 rfl (lv_at hl 0 rfl) ?_
        refine lv_iload hx hb dX7_netOf_44 (lv_at hl 4 rfl) ?_
        refine lv_iload_n hx hb dX7_netOf_46 rfl (lv_at hl 2 rfl) ?_
        obtain ⟨x47, ex47, hf⟩ := obd hf
        refine tcallI (rest := []) hx hb hts hown hE hz hI hml hl.1 (mX7_isValid τ w20.2 c3 _ ex47) (cwX7_isValid hts ⟨Nat.le_of_ble_eq_true rfl, Nat.le_of_ble_eq_true rfl⟩) ⟨Nat.le_of_ble_eq_true rfl, Nat.le_of_ble_eq_true rfl⟩ rfl rfl (lv_room (Nat.le_of_ble_eq_true rfl)) dX7_netOf_47 (fun H locs hI => ?_)
        refine lv_if_ne (tgt := 56) hx hb dX7_netOf_50 (by decide) (fun hc => ?_) (fun hc => ?_)
        · replace hf := ineg hc hf
          refine lv_iload hx hb dX7_netOf_56 (lv_at hl 3 rfl) ?_
          refine lv_aload_n hx hb dX7_netOf_58 rfl (lv_at hl 0 rfl) ?_
          refine lv_iload hx hb dX7_netOf_59 (lv_at hl 4 rfl) ?_
          refine lv_iconst (v := (2 : Int32)) hx hb dX7_netOf_61 (by decide) ?_
          obtain ⟨x62, ex62, hf⟩ := obd hf
          refine tcallI (rest := [.int w20.1]) hx hb hts hown hE hz hI hml hl.1 (mX7_of τ w20.2 (2 : Int32) _ ex62) (cwX7_of hts ⟨Nat.le_of_ble_eq_true rfl, Nat.le_of_ble_eq_true rfl⟩) ⟨Nat.le_of_ble_eq_true rfl, Nat.le_of_ble_eq_true rfl⟩ rfl rfl (lv_room (Nat.le_of_ble_eq_true rfl)) dX7_netOf_62 (fun H locs hI => ?_)
          refine lv_iload_n hx hb dX7_netOf_65 rfl (lv_at hl 1 rfl) ?_
          refine lv_icmp_ne (tgt := 79) hx hb dX7_netOf_66 (by decide) (fun hc => ?_) (fun hc => ?_)
          · replace hf := ineg hc hf
            refine lv_aload_n hx hb dX7_netOf_79 rfl (lv_at hl 0 rfl) ?_
            refine lv_iload hx hb dX7_netOf_80 (lv_at hl 4 rfl) ?_
            refine lv_iconst (v := (1 : Int32)) hx hb dX7_netOf_82 (by decide) ?_
            obtain ⟨x83, ex83, hf⟩ := obd hf
            refine tcallI (rest := [.int w20.1]) hx hb hts hown hE hz hI hml hl.1 (mX7_of τ w20.2 (1 : Int32) _ ex83) (cwX7_of hts ⟨Nat.le_of_ble_eq_true rfl, Nat.le_of_ble_eq_true rfl⟩) ⟨Nat.le_of_ble_eq_true rfl, Nat.le_of_ble_eq_true rfl⟩ rfl rfl (lv_room (Nat.le_of_ble_eq_true rfl)) dX7_netOf_83 (fun H locs hI => ?_)
            refine lv_iload_n hx hb dX7_netOf_86 rfl (lv_at hl 1 rfl) ?_
            refine lv_icmp_ne (tgt := 101) hx hb dX7_netOf_87 (by decide) (fun hc => ?_) (fun hc => ?_)
            · replace hf := ineg hc hf
              refine lv_iconst (v := (0 : Int32)) hx hb dX7_netOf_101 (by decide) ?_
              refine lv_iadd hx hb dX7_netOf_102 ?_
              obtain ⟨v103, ev103, hf⟩ := obd hf
              refine nmI ev103 ?_
              refine lv_istore (lv' := [(4, .int v103), (0, .ref o), (1, .int c1), (3, .int c3), (5, .int w20.2)]) hx hb dX7_netOf_103 hl (by decide) rfl (fun ls hl => ?_)
              obtain ⟨v105_10, ev105_10, hf⟩ := obd hf
              refine lv_iinc (v := v105_10) (lv' := [(5, .int v105_10), (4, .int v103), (0, .ref o), (1, .int c1), (3, .int c3)]) hx hb dX7_netOf_105 hl (k := 4) rfl (iiE ev105_10 (by decide)) (by decide) rfl (fun ls hl => ?_)
              refine lv_goto (tgt := 20) hx hb dX7_netOf_108 (by decide) ?_
              exact hk _ (Option.some.inj hf).symm H locs ls hI (lv_sub hl [2, 3, 4, 1, 0] rfl)
            · replace hf := ipos hc hf
              refine lv_aload_n hx hb dX7_netOf_90 rfl (lv_at hl 0 rfl) ?_
              refine lv_iload hx hb dX7_netOf_91 (lv_at hl 4 rfl) ?_
              refine lv_iconst (v := (3 : Int32)) hx hb dX7_netOf_93 (by decide) ?_
              obtain ⟨x94, ex94, hf⟩ := obd hf
              refine tcallI (rest := [.int w20.1]) hx hb hts hown hE hz hI hml hl.1 (mX7_of τ w20.2 (3 : Int32) _ ex94) (cwX7_of hts ⟨Nat.le_of_ble_eq_true rfl, Nat.le_of_ble_eq_true rfl⟩) ⟨Nat.le_of_ble_eq_true rfl, Nat.le_of_ble_eq_true rfl⟩ rfl rfl (lv_room (Nat.le_of_ble_eq_true rfl)) dX7_netOf_94 (fun H locs hI => ?_)
              refine lv_ineg hx hb dX7_netOf_97 ?_
              refine lv_goto (tgt := 102) hx hb dX7_netOf_98 (by decide) ?_
              refine lv_iadd hx hb dX7_netOf_102 ?_
              obtain ⟨v103_12, ev103_12, hf⟩ := obd hf
              refine nmI ev103_12 ?_
              refine lv_istore (lv' := [(4, .int v103_12), (0, .ref o), (1, .int c1), (3, .int c3), (5, .int w20.2)]) hx hb dX7_netOf_103 hl (by decide) rfl (fun ls hl => ?_)
              obtain ⟨v105_13, ev105_13, hf⟩ := obd hf
              refine lv_iinc (v := v105_13) (lv' := [(5, .int v105_13), (4, .int v103_12), (0, .ref o), (1, .int c1), (3, .int c3)]) hx hb dX7_netOf_105 hl (k := 4) rfl (iiE ev105_13 (by decide)) (by decide) rfl (fun ls hl => ?_)
              refine lv_goto (tgt := 20) hx hb dX7_netOf_108 (by decide) ?_
              exact hk _ (Option.some.inj hf).symm H locs ls hI (lv_sub hl [2, 3, 4, 1, 0] rfl)
          · replace hf := ipos hc hf
            refine lv_aload_n hx hb dX7_netOf_69 rfl (lv_at hl 0 rfl) ?_
            refine lv_iload hx hb dX7_netOf_70 (lv_at hl 4 rfl) ?_
            refine lv_iconst (v := (3 : Int32)) hx hb dX7_netOf_72 (by decide) ?_
            obtain ⟨x73, ex73, hf⟩ := obd hf
            refine tcallI (rest := [.int w20.1]) hx hb hts hown hE hz hI hml hl.1 (mX7_of τ w20.2 (3 : Int32) _ ex73) (cwX7_of hts ⟨Nat.le_of_ble_eq_true rfl, Nat.le_of_ble_eq_true rfl⟩) ⟨Nat.le_of_ble_eq_true rfl, Nat.le_of_ble_eq_true rfl⟩ rfl rfl (lv_room (Nat.le_of_ble_eq_true rfl)) dX7_netOf_73 (fun H locs hI => ?_)
            refine lv_goto (tgt := 102) hx hb dX7_netOf_76 (by decide) ?_
            refine lv_iadd hx hb dX7_netOf_102 ?_
            obtain ⟨v103_15, ev103_15, hf⟩ := obd hf
            refine nmI ev103_15 ?_
            refine lv_istore (lv' := [(4, .int v103_15), (0, .ref o), (1, .int c1), (3, .int c3), (5, .int w20.2)]) hx hb dX7_netOf_103 hl (by decide) rfl (fun ls hl => ?_)
            obtain ⟨v105_16, ev105_16, hf⟩ := obd hf
            refine lv_iinc (v := v105_16) (lv' := [(5, .int v105_16), (4, .int v103_15), (0, .ref o), (1, .int c1), (3, .int c3)]) hx hb dX7_netOf_105 hl (k := 4) rfl (iiE ev105_16 (by decide)) (by decide) rfl (fun ls hl => ?_)
            refine lv_goto (tgt := 20) hx hb dX7_netOf_108 (by decide) ?_
            exact hk _ (Option.some.inj hf).symm H locs ls hI (lv_sub hl [2, 3, 4, 1, 0] rfl)
        · replace hf := ipos hc hf
          refine lv_goto (tgt := 105) hx hb dX7_netOf_53 (by decide) ?_
          obtain ⟨v105_17, ev105_17, hf⟩ := obd hf
          refine lv_iinc (v := v105_17) (lv' := [(5, .int v105_17), (0, .ref o), (1, .int c1), (3, .int c3), (4, .int w20.1)]) hx hb dX7_netOf_105 hl (k := 4) rfl (iiE ev105_17 (by decide)) (by decide) rfl (fun ls hl => ?_)
          refine lv_goto (tgt := 20) hx hb dX7_netOf_108 (by decide) ?_
          exact hk _ (Option.some.inj hf).symm H locs ls hI (lv_sub hl [1, 2, 3, 4, 0] rfl)
  refine loopO_W (Wat := fun w20 => ∀ (H : Heap) (locs : List Loc) (ls : Array Slot), IT D cI cZ o s H locs τ → lv_has ls 6 [(0, .ref o), (1, .int a1), (3, .int v13), (4, .int w20.1), (5, .int w20.2)] → W p l e ({ frames := 3, cells := 0, slots := 0, locals := 85 } : Room) s m args below meth c H locs 0 0 Q (F0 m 20 ls [])) (Wex := fun ex_ => ∀ (H : Heap) (locs : List Loc) (ls : Array Slot), IT D cI cZ o s H locs τ → lv_has ls 6 [(4, .int ex_)] → W p l e ({ frames := 3, cells := 0, slots := 0, locals := 85 } : Room) s m args below meth c H locs 0 0 Q (F0 m 111 ls [])) (hs20 a1 v13) FU _ e20 he20 ?_ H locs ls hI (lv_sub hl [3, 4, 2, 1, 0] rfl)
  · skip
    intro H locs ls hI hl
    refine lv_iload hx hb dX7_netOf_111 (lv_at hl 0 rfl) ?_
    have hf := Option.some.inj hf
    rw [hf]
    exact hret H locs 113 ls hI dX7_netOf_113
theorem cwX7_netOf {R : Room} {s : State} {args : Array Value} {fr lo : Nat} (hts : ∀ w ∈ lw_all, w.before args s = true) (hR : fr + 1 ≤ R.frames ∧ 8 + (6 + 11) + lo ≤ R.locals) : CallW R s args RX7 RX7 303 yX7_netOf cX7_netOf 6 (some .int) (ws_ yX7_netOf cX7_netOf 6 (some .int)) ({ frames := fr, cells := 0, slots := 0, locals := lo }) 0 0 2 :=
  cwV 2 hts (lw_V q2386 q2388 qs95 q143 q2389) rfl rfl rfl (by decide +kernel) hR

def X7_readingOf_L5 (τ : Mm) (c1 : Int32) (c2 : Int32) (w5 : Int32 × Int32) : Option ((Int32 × Int32) ⊕ (Int32)) :=
  if (256 : Int32) ≤ w5.2 then
    some (.inr w5.1)
  else
    (X7_inState τ (0 : Int32)).bind fun x17 =>
    if (w5.2 &&& (x17 ^^^ (-1 : Int32))) = (0 : Int32) then
      if w5.1 = (-1 : Int32) then
        (some (w5.2 + (1 : Int32))).bind fun v76 =>
        some (.inl (w5.2, v76))
      else
        if c2 = (0 : Int32) then
          (X7_netOf τ c1 w5.2).bind fun x61 =>
          (X7_netOf τ c1 w5.1).bind fun x67 =>
          if x67 ≤ x61 then
            (some (w5.2 + (1 : Int32))).bind fun v76_5 =>
            some (.inl (w5.1, v76_5))
          else
            (some (w5.2 + (1 : Int32))).bind fun v76_6 =>
            some (.inl (w5.2, v76_6))
        else
          (X7_netOf τ c1 w5.2).bind fun x42 =>
          (X7_netOf τ c1 w5.1).bind fun x48 =>
          if x42 ≤ x48 then
            (some (w5.2 + (1 : Int32))).bind fun v76_9 =>
            some (.inl (w5.1, v76_9))
          else
            (some (w5.2 + (1 : Int32))).bind fun v76_10 =>
            some (.inl (w5.2, v76_10))
    else
      (some (w5.2 + (1 : Int32))).bind fun v76_11 =>
      some (.inl (w5.1, v76_11))
def X7_readingOf (τ : Mm) (a1 : Int32) (a2 : Int32) : Option (Int32) :=
  (loopO (X7_readingOf_L5 τ a1 a2) FU ((-1 : Int32), (0 : Int32))).bind fun e5 =>
  some e5
set_option maxHeartbeats 4000000 in
theorem mX7_readingOf (τ : Mm) (a1 : Int32) (a2 : Int32) (r : Int32) (hf : X7_readingOf τ a1 a2 = some r) : TMi yX7_readingOf cX7_readingOf 5 (some .int) 4 110 (fun aK => [.int a1, .int a2]) r τ τ := by
  refine TMi.of (by decide) rfl (fun _ _ => Nat.le_of_ble_eq_true rfl) ?_
  intro p l e s m args below meth c D cI cZ o z aK aV Q ls hz hx hb hml hown hts hE hret hI hl
  obtain ⟨H, eH⟩ : ∃ H, H = s.heap := ⟨_, rfl⟩
  obtain ⟨locs, eL⟩ : ∃ L : List Loc, L = [] := ⟨_, rfl⟩
  rw [← eH, ← eL] at hI ⊢
  have hl : lv_has ls 5 [(0, .ref o), (1, .int a1), (2, .int a2)] := hl
  unfold X7_readingOf at hf
  refine lv_iconst (v := (-1 : Int32)) hx hb dX7_readingOf_0 (by decide) ?_
  refine lv_istore_n (lv' := [(3, .int (-1 : Int32)), (0, .ref o), (1, .int a1), (2, .int a2)]) hx hb dX7_readingOf_1 rfl hl (by decide) rfl (fun ls hl => ?_)
  refine lv_iconst (v := (0 : Int32)) hx hb dX7_readingOf_2 (by decide) ?_
  refine lv_istore (lv' := [(4, .int (0 : Int32)), (3, .int (-1 : Int32)), (0, .ref o), (1, .int a1), (2, .int a2)]) hx hb dX7_readingOf_3 hl (by decide) rfl (fun ls hl => ?_)
  obtain ⟨e5, he5, hf⟩ := obd hf
  have hs5 : ∀ (c1 : Int32) (c2 : Int32), ∀ (w5 : Int32 × Int32) (o5 : (Int32 × Int32) ⊕ (Int32)), X7_readingOf_L5 τ c1 c2 w5 = some o5 → (∀ wx_, o5 = .inl wx_ → ∀ (H : Heap) (locs : List Loc) (ls : Array Slot), IT D cI cZ o s H locs τ → lv_has ls 5 [(0, .ref o), (1, .int c1), (2, .int c2), (3, .int wx_.1), (4, .int wx_.2)] → W p l e ({ frames := 4, cells := 0, slots := 0, locals := 110 } : Room) s m args below meth c H locs 0 0 Q (F0 m 5 ls [])) → (∀ ex_, o5 = .inr ex_ → ∀ (H : Heap) (locs : List Loc) (ls : Array Slot), IT D cI cZ o s H locs τ → lv_has ls 5 [(3, .int ex_)] → W p l e ({ frames := 4, cells := 0, slots := 0, locals := 110 } : Room) s m args below meth c H locs 0 0 Q (F0 m 82 ls [])) → ∀ (H : Heap) (locs : List Loc) (ls : Array Slot), IT D cI cZ o s H locs τ → lv_has ls 5 [(0, .ref o), (1, .int c1), (2, .int c2), (3, .int w5.1), (4, .int w5.2)] → W p l e ({ frames := 4, cells := 0, slots := 0, locals := 110 } : Room) s m args below meth c H locs 0 0 Q (F0 m 5 ls []) := by
    intro c1 c2 w5 o5 hf hk hq H locs ls hI hl
    unfold X7_readingOf_L5 at hf
    refine lv_iload hx hb dX7_readingOf_5 (lv_at hl 4 rfl) ?_
    refine lv_sipush (v := (256 : Int32)) hx hb dX7_readingOf_7 (by decide) ?_
    refine lv_icmp_ge (tgt := 82) hx hb dX7_readingOf_10 (by decide) (fun hc => ?_) (fun hc => ?_)
    · replace hf := ipos hc hf
      exact hq _ (Option.some.inj hf).symm H locs ls hI (lv_sub hl [3] rfl)
    · replace hf := ineg hc hf
      refine lv_iload hx hb dX7_readingOf_13 (lv_at hl 4 rfl) ?_
      refine lv_aload_n hx hb dX7_readingOf_15 rfl (lv_at hl 0 rfl) ?_
      refine lv_iconst (v := (0 : Int32)) hx hb dX7_readingOf_16 (by decide) ?_
      obtain ⟨x17, ex17, hf⟩ := obd hf
      refine tcallI (rest := [.int w5.2]) hx hb hts hown hE hz hI hml hl.1 (mX7_inState τ (0 : Int32) _ ex17) (cwX7_inState hts ⟨Nat.le_of_ble_eq_true rfl, Nat.le_of_ble_eq_true rfl⟩) ⟨Nat.le_of_ble_eq_true rfl, Nat.le_of_ble_eq_true rfl⟩ rfl rfl (lv_room (Nat.le_of_ble_eq_true rfl)) dX7_readingOf_17 (fun H locs hI => ?_)
      refine lv_iconst (v := (-1 : Int32)) hx hb dX7_readingOf_20 (by decide) ?_
      refine lv_ixor hx hb dX7_readingOf_21 ?_
      refine lv_iand hx hb dX7_readingOf_22 ?_
      refine lv_if_eq (tgt := 29) hx hb dX7_readingOf_23 (by decide) (fun hc => ?_) (fun hc => ?_)
      · replace hf := ipos hc hf
        refine lv_iload_n hx hb dX7_readingOf_29 rfl (lv_at hl 3 rfl) ?_
        refine lv_iconst (v := (-1 : Int32)) hx hb dX7_readingOf_30 (by decide) ?_
        refine lv_icmp_eq (tgt := 73) hx hb dX7_readingOf_31 (by decide) (fun hc => ?_) (fun hc => ?_)
        · replace hf := ipos hc hf
          refine lv_iload hx hb dX7_readingOf_73 (lv_at hl 4 rfl) ?_
          refine lv_istore_n (lv' := [(3, .int w5.2), (0, .ref o), (1, .int c1), (2, .int c2), (4, .int w5.2)]) hx hb dX7_readingOf_75 rfl hl (by decide) rfl (fun ls hl => ?_)
          obtain ⟨v76, ev76, hf⟩ := obd hf
          refine lv_iinc (v := v76) (lv' := [(4, .int v76), (3, .int w5.2), (0, .ref o), (1, .int c1), (2, .int c2)]) hx hb dX7_readingOf_76 hl (k := 4) rfl (iiE ev76 (by decide)) (by decide) rfl (fun ls hl => ?_)
          refine lv_goto (tgt := 5) hx hb dX7_readingOf_79 (by decide) ?_
          exact hk _ (Option.some.inj hf).symm H locs ls hI (lv_sub hl [2, 3, 4, 1, 0] rfl)
        · replace hf := ineg hc hf
          refine lv_iload_n hx hb dX7_readingOf_34 rfl (lv_at hl 2 rfl) ?_
          refine lv_if_eq (tgt := 57) hx hb dX7_readingOf_35 (by decide) (fun hc => ?_) (fun hc => ?_)
          · replace hf := ipos hc hf
            refine lv_aload_n hx hb dX7_readingOf_57 rfl (lv_at hl 0 rfl) ?_
            refine lv_iload_n hx hb dX7_readingOf_58 rfl (lv_at hl 1 rfl) ?_
            refine lv_iload hx hb dX7_readingOf_59 (lv_at hl 4 rfl) ?_
            obtain ⟨x61, ex61, hf⟩ := obd hf
            refine tcallI (rest := []) hx hb hts hown hE hz hI hml hl.1 (mX7_netOf τ c1 w5.2 _ ex61) (cwX7_netOf hts ⟨Nat.le_of_ble_eq_true rfl, Nat.le_of_ble_eq_true rfl⟩) ⟨Nat.le_of_ble_eq_true rfl, Nat.le_of_ble_eq_true rfl⟩ rfl rfl (lv_room (Nat.le_of_ble_eq_true rfl)) dX7_readingOf_61 (fun H locs hI => ?_)
            refine lv_aload_n hx hb dX7_readingOf_64 rfl (lv_at hl 0 rfl) ?_
            refine lv_iload_n hx hb dX7_readingOf_65 rfl (lv_at hl 1 rfl) ?_
            refine lv_iload_n hx hb dX7_readingOf_66 rfl (lv_at hl 3 rfl) ?_
            obtain ⟨x67, ex67, hf⟩ := obd hf
            refine tcallI (rest := [.int x61]) hx hb hts hown hE hz hI hml hl.1 (mX7_netOf τ c1 w5.1 _ ex67) (cwX7_netOf hts ⟨Nat.le_of_ble_eq_true rfl, Nat.le_of_ble_eq_true rfl⟩) ⟨Nat.le_of_ble_eq_true rfl, Nat.le_of_ble_eq_true rfl⟩ rfl rfl (lv_room (Nat.le_of_ble_eq_true rfl)) dX7_readingOf_67 (fun H locs hI => ?_)
            refine lv_icmp_ge (tgt := 76) hx hb dX7_readingOf_70 (by decide) (fun hc => ?_) (fun hc => ?_)
            · replace hf := ipos hc hf
              obtain ⟨v76_5, ev76_5, hf⟩ := obd hf
              refine lv_iinc (v := v76_5) (lv' := [(4, .int v76_5), (0, .ref o), (1, .int c1), (2, .int c2), (3, .int w5.1)]) hx hb dX7_readingOf_76 hl (k := 4) rfl (iiE ev76_5 (by decide)) (by decide) rfl (fun ls hl => ?_)
              refine lv_goto (tgt := 5) hx hb dX7_readingOf_79 (by decide) ?_
              exact hk _ (Option.some.inj hf).symm H locs ls hI (lv_sub hl [1, 2, 3, 4, 0] rfl)
            · replace hf := ineg hc hf
              refine lv_iload hx hb dX7_readingOf_73 (lv_at hl 4 rfl) ?_
              refine lv_istore_n (lv' := [(3, .int w5.2), (0, .ref o), (1, .int c1), (2, .int c2), (4, .int w5.2)]) hx hb dX7_readingOf_75 rfl hl (by decide) rfl (fun ls hl => ?_)
              obtain ⟨v76_6, ev76_6, hf⟩ := obd hf
              refine lv_iinc (v := v76_6) (lv' := [(4, .int v76_6), (3, .int w5.2), (0, .ref o), (1, .int c1), (2, .int c2)]) hx hb dX7_readingOf_76 hl (k := 4) rfl (iiE ev76_6 (by decide)) (by decide) rfl (fun ls hl => ?_)
              refine lv_goto (tgt := 5) hx hb dX7_readingOf_79 (by decide) ?_
              exact hk _ (Option.some.inj hf).symm H locs ls hI (lv_sub hl [2, 3, 4, 1, 0] rfl)
          · replace hf := ineg hc hf
            refine lv_aload_n hx hb dX7_readingOf_38 rfl (lv_at hl 0 rfl) ?_
            refine lv_iload_n hx hb dX7_readingOf_39 rfl (lv_at hl 1 rfl) ?_
            refine lv_iload hx hb dX7_readingOf_40 (lv_at hl 4 rfl) ?_
            obtain ⟨x42, ex42, hf⟩ := obd hf
            refine tcallI (rest := []) hx hb hts hown hE hz hI hml hl.1 (mX7_netOf τ c1 w5.2 _ ex42) (cwX7_netOf hts ⟨Nat.le_of_ble_eq_true rfl, Nat.le_of_ble_eq_true rfl⟩) ⟨Nat.le_of_ble_eq_true rfl, Nat.le_of_ble_eq_true rfl⟩ rfl rfl (lv_room (Nat.le_of_ble_eq_true rfl)) dX7_readingOf_42 (fun H locs hI => ?_)
            refine lv_aload_n hx hb dX7_readingOf_45 rfl (lv_at hl 0 rfl) ?_
            refine lv_iload_n hx hb dX7_readingOf_46 rfl (lv_at hl 1 rfl) ?_
            refine lv_iload_n hx hb dX7_readingOf_47 rfl (lv_at hl 3 rfl) ?_
            obtain ⟨x48, ex48, hf⟩ := obd hf
            refine tcallI (rest := [.int x42]) hx hb hts hown hE hz hI hml hl.1 (mX7_netOf τ c1 w5.1 _ ex48) (cwX7_netOf hts ⟨Nat.le_of_ble_eq_true rfl, Nat.le_of_ble_eq_true rfl⟩) ⟨Nat.le_of_ble_eq_true rfl, Nat.le_of_ble_eq_true rfl⟩ rfl rfl (lv_room (Nat.le_of_ble_eq_true rfl)) dX7_readingOf_48 (fun H locs hI => ?_)
            refine lv_icmp_le (tgt := 76) hx hb dX7_readingOf_51 (by decide) (fun hc => ?_) (fun hc => ?_)
            · replace hf := ipos hc hf
              obtain ⟨v76_9, ev76_9, hf⟩ := obd hf
              refine lv_iinc (v := v76_9) (lv' := [(4, .int v76_9), (0, .ref o), (1, .int c1), (2, .int c2), (3, .int w5.1)]) hx hb dX7_readingOf_76 hl (k := 4) rfl (iiE ev76_9 (by decide)) (by decide) rfl (fun ls hl => ?_)
              refine lv_goto (tgt := 5) hx hb dX7_readingOf_79 (by decide) ?_
              exact hk _ (Option.some.inj hf).symm H locs ls hI (lv_sub hl [1, 2, 3, 4, 0] rfl)
            · replace hf := ineg hc hf
              refine lv_goto (tgt := 73) hx hb dX7_readingOf_54 (by decide) ?_
              refine lv_iload hx hb dX7_readingOf_73 (lv_at hl 4 rfl) ?_
              refine lv_istore_n (lv' := [(3, .int w5.2), (0, .ref o), (1, .int c1), (2, .int c2), (4, .int w5.2)]) hx hb dX7_readingOf_75 rfl hl (by decide) rfl (fun ls hl => ?_)
              obtain ⟨v76_10, ev76_10, hf⟩ := obd hf
              refine lv_iinc (v := v76_10) (lv' := [(4, .int v76_10), (3, .int w5.2), (0, .ref o), (1, .int c1), (2, .int c2)]) hx hb dX7_readingOf_76 hl (k := 4) rfl (iiE ev76_10 (by decide)) (by decide) rfl (fun ls hl => ?_)
              refine lv_goto (tgt := 5) hx hb dX7_readingOf_79 (by decide) ?_
              exact hk _ (Option.some.inj hf).symm H locs ls hI (lv_sub hl [2, 3, 4, 1, 0] rfl)
      · replace hf := ineg hc hf
        refine lv_goto (tgt := 76) hx hb dX7_readingOf_26 (by decide) ?_
        obtain ⟨v76_11, ev76_11, hf⟩ := obd hf
        refine lv_iinc (v := v76_11) (lv' := [(4, .int v76_11), (0, .ref o), (1, .int c1), (2, .int c2), (3, .int w5.1)]) hx hb dX7_readingOf_76 hl (k := 4) rfl (iiE ev76_11 (by decide)) (by decide) rfl (fun ls hl => ?_)
        refine lv_goto (tgt := 5) hx hb dX7_readingOf_79 (by decide) ?_
        exact hk _ (Option.some.inj hf).symm H locs ls hI (lv_sub hl [1, 2, 3, 4, 0] rfl)
  refine loopO_W (Wat := fun w5 => ∀ (H : Heap) (locs : List Loc) (ls : Array Slot), IT D cI cZ o s H locs τ → lv_has ls 5 [(0, .ref o), (1, .int a1), (2, .int a2), (3, .int w5.1), (4, .int w5.2)] → W p l e ({ frames := 4, cells := 0, slots := 0, locals := 110 } : Room) s m args below meth c H locs 0 0 Q (F0 m 5 ls [])) (Wex := fun ex_ => ∀ (H : Heap) (locs : List Loc) (ls : Array Slot), IT D cI cZ o s H locs τ → lv_has ls 5 [(3, .int ex_)] → W p l e ({ frames := 4, cells := 0, slots := 0, locals := 110 } : Room) s m args below meth c H locs 0 0 Q (F0 m 82 ls [])) (hs5 a1 a2) FU _ e5 he5 ?_ H locs ls hI (lv_sub hl [2, 3, 4, 1, 0] rfl)
  · skip
    intro H locs ls hI hl
    refine lv_iload_n hx hb dX7_readingOf_82 rfl (lv_at hl 0 rfl) ?_
    have hf := Option.some.inj hf
    rw [hf]
    exact hret H locs 83 ls hI dX7_readingOf_83
theorem cwX7_readingOf {R : Room} {s : State} {args : Array Value} {fr lo : Nat} (hts : ∀ w ∈ lw_all, w.before args s = true) (hR : fr + 1 ≤ R.frames ∧ 8 + (5 + 11) + lo ≤ R.locals) : CallW R s args RX7 RX7 312 yX7_readingOf cX7_readingOf 5 (some .int) (ws_ yX7_readingOf cX7_readingOf 5 (some .int)) ({ frames := fr, cells := 0, slots := 0, locals := lo }) 0 0 2 :=
  cwV 2 hts (lw_V q2374 q2376 qs92 q143 q2377) rfl rfl rfl (by decide +kernel) hR
