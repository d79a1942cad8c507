set_option maxRecDepth 100000

def X3_word_L4 (w4 : Cs) : Option ((Cs) ⊕ (Cs)) :=
  (X3_byteAt w4 (co w4 1 3)).bind fun x9 =>
  (X1_in x9 (97 : Int32) (122 : Int32)).bind fun x16 =>
  if x16 = (0 : Int32) then
    some (.inr w4)
  else
    (some (cou w4 (mup (co w4) 1 3 ((co w4 1 3) + (1 : Int32))))).bind fun t29 =>
    some (.inl t29)
def X3_scan (τ : Cs) : Option Cs :=
  (X3_blanks τ).bind fun t1 =>
  (loopO (X3_word_L4) FU t1).bind fun e4 =>
  some e4
set_option maxHeartbeats 4000000 in
theorem scan_W {p : Program} {l : Launch} {e : Env} {s : State} {m : MethodId} {args : Array Value} {below : List Frame} {meth : Method} {c : Code} {D : va_G} {J : Nat → ClassId} {o z : Nat} {aK aV : Nat → Nat} {G Ld : Nat → Prop} {aF : Nat → Nat} {Λ : Nat → Nat → (Nat → Int32) → Int32} {Λn : Nat → Int32} {Q : State → Prop} {ls : Array Slot} {H : Heap} {locs : List Loc} {mc ms : Nat} (τ τ' : Cs) (hf : X3_scan τ = some τ') (hx : p.tables.exec = Jvm.exec) (hb : c.code = cX3_word) (hml : c.maxLocals = 3) (hown : s.vm.findClass RX3 = some m.cls) (hts : ∀ w ∈ lw_all, w.before args s = true) (hE : ECC D J o z aK aV G Ld aF Λ Λn s)
    (hcont : ∀ (H : Heap) (locs : List Loc) (ls : Array Slot), IC D J o Ld s H locs τ' → lv_has ls 3 [(0, .ref (o + 61))] → W p l e ({ frames := 14, cells := mc, slots := ms, locals := 1500 } : Room) s m args below meth c H locs 0 0 Q (F0 m 35 ls [])) (hI : IC D J o Ld s H locs τ) (hl : lv_has ls 3 [(0, .ref (o + 61))]) : W p l e ({ frames := 14, cells := mc, slots := ms, locals := 1500 } : Room) s m args below meth c H locs 0 0 Q (F0 m 0 ls []) := by
  unfold X3_scan at hf
  refine lv_aload_n hx hb dX3_word_0 rfl (lv_at hl 0 rfl) ?_
  obtain ⟨t1, et1, hf⟩ := obd hf
  refine ccallV (rest := []) hx hb hts hown hE hI hml hl.1 (mX3_blanks Λ Λn τ _ et1) (cwX3_blanks_X3 hts ⟨Nat.le_of_ble_eq_true rfl, Nat.le_of_ble_eq_true rfl⟩) (hI.1.o 1 rfl) rfl rfl ⟨Nat.zero_le _, Nat.zero_le _⟩ rfl rfl (lv_room (Nat.le_of_ble_eq_true rfl)) dX3_word_1 (fun H locs hI => ?_)
  obtain ⟨e4, he4, hf⟩ := obd hf
  refine loopO_W (Wat := fun w4 => ∀ (H : Heap) (locs : List Loc) (ls : Array Slot), IC D J o Ld s H locs w4 → lv_has ls 3 [(0, .ref (o + 61))] → W p l e ({ frames := 14, cells := mc, slots := ms, locals := 1500 } : Room) s m args below meth c H locs 0 0 Q (F0 m 4 ls [])) (Wex := fun ex_ => ∀ (H : Heap) (locs : List Loc) (ls : Array Slot), IC D J o Ld s H locs ex_ → lv_has ls 3 [(0, .ref (o + 61))] → W p l e ({ frames := 14, cells := mc, slots := ms, locals := 1500 } : Room) s m args below meth c H locs 0 0 Q (F0 m 35 ls [])) (fun w4 o4 hf hk hq => ?_) FU _ e4 he4 ?_ H locs ls hI (lv_sub hl [0] rfl)
  · intro H locs ls hI hl
    unfold X3_word_L4 at hf
    refine lv_aload_n hx hb dX3_word_4 rfl (lv_at hl 0 rfl) ?_
    refine lv_aload_n hx hb dX3_word_5 rfl (lv_at hl 0 rfl) ?_
    refine gget hx hb hts in_X3 hown hE.1.1 (hI.1.o 1 rfl) rfl 3 (by decide) q331 rfl dX3_word_6 ?_
    obtain ⟨x9, ex9, hf⟩ := obd hf
    refine ccallI (rest := []) hx hb hts hown hE hI hml hl.1 (mX3_byteAt Λ Λn w4 (co w4 1 3) _ ex9) (cwX3_byteAt_X3 hts ⟨Nat.le_of_ble_eq_true rfl, Nat.le_of_ble_eq_true rfl⟩) (hI.1.o 1 rfl) rfl rfl ⟨Nat.zero_le _, Nat.zero_le _⟩ rfl rfl (lv_room (Nat.le_of_ble_eq_true rfl)) dX3_word_9 (fun H locs hI => ?_)
    refine lv_bipush (v := (97 : Int32)) hx hb dX3_word_12 (by decide) ?_
    refine lv_bipush (v := (122 : Int32)) hx hb dX3_word_14 (by decide) ?_
    obtain ⟨x16, ex16, hf⟩ := obd hf
    refine tcallSN (rest := []) hx hb hts hown hml hl.1 (mX1_in x9 (97 : Int32) (122 : Int32) _ ex16) (cnX1_in_X3 hts hE.1.2.2 ⟨Nat.le_of_ble_eq_true rfl, Nat.le_of_ble_eq_true rfl⟩) ⟨Nat.zero_le _, Nat.zero_le _⟩ rfl rfl (lv_room (Nat.le_of_ble_eq_true rfl)) dX3_word_16 ?_
    refine lv_if_eq (tgt := 35) hx hb dX3_word_19 (by decide) (fun hc => ?_) (fun hc => ?_)
    · replace hf := ipos hc hf
      exact hq _ (Option.some.inj hf).symm H locs ls hI (lv_sub hl [0] rfl)
    · replace hf := ineg hc hf
      refine lv_aload_n hx hb dX3_word_22 rfl (lv_at hl 0 rfl) ?_
      refine lv_dup hx hb dX3_word_23 rfl ?_
      refine gget hx hb hts in_X3 hown hE.1.1 (hI.1.o 1 rfl) rfl 3 (by decide) q331 rfl dX3_word_24 ?_
      refine lv_iconst (v := (1 : Int32)) hx hb dX3_word_27 (by decide) ?_
      refine lv_iadd hx hb dX3_word_28 ?_
      obtain ⟨t29, et29, hf⟩ := obd hf
      refine gput hx hb hts in_X3 tyX3 tyX3_ok nmX3 hown hE.1.1 (hI.1.o 1 rfl) rfl 3 (by decide) q331 rfl rfl rfl (Nat.le_of_ble_eq_true rfl) dX3_word_29 (fun H locs h1 h2 h3 h4 => ?_)
      have hI := hI.putO (σ' := cou w4 (mup (co w4) 1 3 ((co w4 1 3) + (1 : Int32)))) (P := 1) rfl rfl ⟨rfl, rfl⟩ h1 h2 h3 h4
      rw [Option.some.inj et29] at hI
      refine lv_goto (tgt := 4) hx hb dX3_word_32 (by decide) ?_
      exact hk _ (Option.some.inj hf).symm H locs ls hI (lv_sub hl [0] rfl)
  · skip
    intro H locs ls hI hl
    exact hcont H locs ls (Option.some.inj hf ▸ hI) (lv_sub hl [0] rfl)
/-- the builder's capacity after k letters, what has been made for it -/
def wcap : Nat → Nat
  | 0 => 16
  | k + 1 => if k = wcap k then 2 * wcap k + 2 else wcap k
def wcc : Nat → Nat
  | 0 => 0
  | k + 1 => wcc k + (if k = wcap k then 1 else 0)
def wcs : Nat → Nat
  | 0 => 0
  | k + 1 => wcs k + (if k = wcap k then 2 * wcap k + 2 else 0)
theorem wcap_ge (k : Nat) : k ≤ wcap k ∧ 16 ≤ wcap k := by
  induction k with
  | zero => exact ⟨Nat.zero_le _, Nat.le_refl _⟩
  | succ k ih =>
    show k + 1 ≤ (if k = wcap k then 2 * wcap k + 2 else wcap k) ∧ 16 ≤ (if k = wcap k then 2 * wcap k + 2 else wcap k)
    split <;> omega
theorem wcap_le (k : Nat) : wcap k ≤ 2 * k + 16 := by
  induction k with
  | zero => exact Nat.le_refl _
  | succ k ih =>
    show (if k = wcap k then 2 * wcap k + 2 else wcap k) ≤ _
    split <;> omega
/-- where the word that has been scanned begins, how long it is, its letters -/
def wbg (σ : Cs) : Nat := (co σ 1 4).toNatClampNeg
def wlen (σ : Cs) : Nat := (co σ 1 3).toNatClampNeg - (co σ 1 4).toNatClampNeg
def wby (σ : Cs) : Nat → Int32 := fun j => co σ 2 (wbg σ + j)
def wOk (σ : Cs) : Bool := decide (¬ co σ 1 4 < 0) && decide (¬ co σ 1 3 < 0) && decide (wbg σ ≤ (co σ 1 3).toNatClampNeg) && decide ((co σ 1 3).toNatClampNeg ≤ 400) && (List.range (wlen σ)).all (fun j => decide (¬ wby σ j < 0) && decide (¬ (127 : Int32) < wby σ j))
def wC (σ : Cs) : Nat := 4 + wcc (wlen σ)
def wS (σ : Cs) : Nat := 28 + wcs (wlen σ) + wlen σ
def X3_word (σ : Cs) : Option Cs := (X3_scan σ).bind fun t => if wOk t = true then some t else none
theorem wOk_e {σ : Cs} (h : wOk σ = true) : co σ 1 4 = nI (wbg σ) ∧ co σ 1 3 = nI (wbg σ + wlen σ) ∧ wbg σ + wlen σ ≤ 400 ∧ ∀ j, j < wlen σ → ¬ wby σ j < 0 ∧ ¬ (127 : Int32) < wby σ j := by
  unfold wOk at h
  simp only [Bool.and_eq_true, decide_eq_true_eq, List.all_eq_true, List.mem_range] at h
  obtain ⟨⟨⟨⟨h1, h2⟩, h3⟩, h4⟩, h5⟩ := h
  obtain ⟨i, hi, e1⟩ := nI_of h1
  obtain ⟨k, hk, e2⟩ := nI_of h2
  have hb : wbg σ = i := by
    unfold wbg
    rw [e1, nI_clamp hi]
  have he : (co σ 1 3).toNatClampNeg = k := by rw [e2, nI_clamp hk]
  have hl : wlen σ = k - i := by
    unfold wlen
    rw [he, show (co σ 1 4).toNatClampNeg = i from hb]
  refine ⟨by rw [hb]; exact e1, by rw [hb, hl, show i + (k - i) = k by omega]; exact e2, by omega, h5⟩
/-- letters stay what they are -/
theorem chr_id {x : Int32} (h0 : ¬ x < 0) (h1 : ¬ (127 : Int32) < x) : x.toInt8.toInt32 = x ∧ (x.toUInt32 % 65536).toInt32 = x := by
  obtain ⟨i, hi, rfl⟩ := nI_of h0
  have hi2 : i ≤ 127 := by
    rcases Nat.lt_or_ge 127 i with g | g
    · exact absurd (nI_lt (a := 127) g (by omega)) h1
    · exact g
  have : ∀ k : Nat, k < 128 → (nI k).toInt8.toInt32 = nI k ∧ ((nI k).toUInt32 % 65536).toInt32 = nI k := by decide
  exact this i (by omega)
