/-! World.likens: two worlds, at a and at b; all of b's goes into a's cells -/
def okZ (n : Nat) (f : Nat → Int32) : Bool := (List.range n).all fun i => f i == 0 || f i == 1
theorem okZ_e {n : Nat} {f : Nat → Int32} (h : okZ n f = true) : ∀ i, i < n → f i = 0 ∨ f i = 1 := by
  intro i hi
  have h1 := List.all_eq_true.mp h i (List.mem_range.mpr hi)
  simp only [Bool.or_eq_true, beq_iff_eq] at h1
  exact h1
theorem cpy_at {D : va_G} {cA : ClassId} {n x : Nat} {k : Int32} {f g : Nat → Int32} {H : Heap} (h : va_at D vwC (x, .inl (cA, n, .inl (va_cpy f g (0 : Int32).toNatClampNeg (0 : Int32).toNatClampNeg k.toNatClampNeg))) H) (hk : k.toNatClampNeg = n) : va_at D vwC (x, .inl (cA, n, .inl f)) H := by
  show H[x]? = _
  rw [show H[x]? = _ from h, hk]
  congr 1
  refine cell_ext (fun j hj => ?_)
  show (if 0 ≤ j ∧ j < 0 + n then f (0 + (j - 0)) else g j) = f j
  rw [if_pos ⟨Nat.zero_le _, by rw [Nat.zero_add]; exact hj⟩, Nat.zero_add, Nat.sub_zero]
/-- the contract of row: an int array's content goes into another of its length -/
def RowC : Prop := ∀ (l : Launch) (D : va_G) (J : Nat → ClassId) (z : Nat) (aK aV : Nat → Nat) (n a b : Nat) (f g : Nat → Int32), (nI n).toNatClampNeg = n → ¬ nI n < 0 → z ≤ a →
  Met l yX2_row (ws_ yX2_row cX2_row 2 none) ({ frames := 2, cells := 0, slots := 0, locals := 100 }) (va_Pc [.ref b, .ref a] (fun U => (va_at D vwC (b, .inl (J 0, n, .inl f)) U.heap ∧ va_at D vwC (a, .inl (J 0, n, .inl g)) U.heap) ∧ EC D J z aK aV U)) (va_Qv (fun (_ : Unit) => True) (fun _ t => va_at D vwC (a, .inl (J 0, n, .inl f)) t.heap) (fun q => q = a)) 0 0 (fun q => q = a)
theorem mX2_row : RowC := by
  intro l D J z aK aV n a b f g hn1 hn2 hz
  refine Met.ofW (cc := cX2_row) (maxL := 2) (ret := none) (by decide) rfl ?_
  intro p e s m args below meth c s₁ B hml hv
  obtain ⟨rfl, ⟨hfb, hfa⟩, hE⟩ := hv
  have hts := atoms_spec (ws := ws_ yX2_row cX2_row 2 none) B.pre
  have hts : ∀ w ∈ lw_all, w.before _ s = true := fun w h => hts w (List.mem_cons_of_mem _ h)
  have hown : s.vm.findClass RX2 = some m.cls := findClass_of_methodNamed B.named
  have hl := lv_entry [.ref b, .ref a] (n := 2) (Nat.le_of_ble_eq_true rfl)
  rw [lg_entry_eq]
  generalize (lg_sl [.ref b, .ref a] ++ List.replicate (2 - (lg_sl [.ref b, .ref a]).length) Slot.unset).toArray = ls at hl ⊢
  have hl : lv_has ls 2 [(0, .ref b), (1, .ref a)] := hl
  have hx := B.exec
  have hb := B.bytes
  refine lv_aload_n hx hb dX2_row_0 rfl (lv_at hl 0 rfl) ?_
  refine lv_iconst (v := (0 : Int32)) hx hb dX2_row_1 (by decide) ?_
  refine lv_aload_n hx hb dX2_row_2 rfl (lv_at hl 1 rfl) ?_
  refine lv_iconst (v := (0 : Int32)) hx hb dX2_row_3 (by decide) ?_
  refine lv_aload_n hx hb dX2_row_4 rfl (lv_at hl 1 rfl) ?_
  refine va_alen (v := nI n) hx hb hE.1 (va_P1 hfa) 0 0 rfl rfl rfl dX2_row_5 ?_
  refine gcopy (rest := []) hx hb (by rw [hml, hl.1]) hts hown hE.1 0 q568 hfb hfa rfl rfl ⟨by decide, by decide, hn2, by rw [hn1]; exact Nat.le_of_eq (Nat.zero_add n), by rw [hn1]; exact Nat.le_of_eq (Nat.zero_add n)⟩ (fun _ _ => rfl) (Nat.le_of_ble_eq_true rfl) (Nat.le_of_ble_eq_true rfl) dX2_row_6 (fun H locs h1 h2 h3 h4 => ?_)
  have h5 : va_at D vwC (a, .inl (J 0, n, .inl f)) H := by
    exact cpy_at h1 hn1
  have hSS : va_S (fun q => q = a) s.heap H locs := ⟨Nat.le_of_eq h2.symm, fun q _ hq => h3 q hq, fun l hl => (h4 l hl).resolve_left (by simp)⟩
  refine W.vret hx hb B.returns (fun t ht hW => ⟨⟨(), rfl, trivial, by show va_at D vwC _ t.heap; rw [ht]; exact h5⟩, hSS.F ht⟩) hSS.2.2 dX2_row_9 B.notSynchronized

theorem csX2_row_X2 {R : Room} {s : State} {args : Array Value} {fr lo : Nat} (hts : ∀ w ∈ lw_all, w.before args s = true) (hR : fr + 1 ≤ R.frames ∧ 8 + (2 + 11) + lo ≤ R.locals) : CallB R s args RX2 108 yX2_row cX2_row 2 (none) (ws_ yX2_row cX2_row 2 (none)) ({ frames := fr, cells := 0, slots := 0, locals := lo }) 0 0 2 ∧ (Cond.static yX2_row).before args s = true :=
  va_cwS 2 hts (lw_S q565 q566 q134 q567) rfl rfl rfl (by decide +kernel) hR
/-- τ with its first k parts from τb -/
def lkF (τ τb : Mm) (k : Nat) : Mm := fun r q => if r = 0 then (if q < k then τb 0 q else τ 0 q) else if r < k then τb r q else τ r q
def I2 (D : va_G) (J : Nat → ClassId) (a b : Nat) (lb : Option Nat) (τb : Mm) (s : State) (la : Option Nat) (τ : Mm) (H : Heap) (locs : List Loc) : Prop := va_P D vwC (ctW J a la τ) H ∧ va_P D vwC (ctW J b lb τb) H ∧ va_S (rW a) s.heap H locs
theorem I2.put {D : va_G} {J : Nat → ClassId} {a b : Nat} {la la' lb : Option Nat} {τ τ' τb : Mm} {s : State} {H H1 : Heap} {locs locs1 : List Loc} (h : I2 D J a b lb τb s la τ H locs) (hd : a + 19 < b ∨ b + 19 < a) {P x : Nat} {e0 e1 : va_E} (h0 : (ctW J a la τ)[P]? = some (x, e0)) (hs : (ctW J a la τ).set P (x, e1) = ctW J a la' τ') (hat : va_at D vwC (x, e1) H1) (hz : H1.size = H.size) (hq : ∀ q : Nat, q ≠ x → H1[q]? = H[q]?) (hl : ∀ l ∈ locs1, l ∈ locs ∨ l.base = x) : I2 D J a b lb τb s la' τ' H1 locs1 := by
  have hx := ctW_at P _ h0
  have hr : rW a x := ⟨by omega, by omega⟩
  refine ⟨?_, h.2.1.kept (fun k q hk => hq q.1 (fun e => ?_)), ?_, fun q h1 h2 => (hq q (fun e => h2 (by rw [e]; exact hr))).trans (h.2.2.2.1 q h1 h2), fun l h9 => ?_⟩
  · rw [← hs]
    exact h.1.set ctW_D h0 hat hq
  · have := ctW_at k q hk
    omega
  · rw [hz]; exact h.2.2.1
  · rcases hl l h9 with g | g
    · exact h.2.2.2.2 l g
    · rw [g]; exact hr
theorem I2.row {D : va_G} {J : Nat → ClassId} {a b : Nat} {la lb : Option Nat} {τ τ' τb : Mm} {s : State} {H H1 : Heap} {locs locs1 : List Loc} (h : I2 D J a b lb τb s la τ H locs) (hd : a + 19 < b ∨ b + 19 < a) {P x : Nat} {e0 e1 : va_E} (h0 : (ctW J a la τ)[P]? = some (x, e0)) (hs : (ctW J a la τ).set P (x, e1) = ctW J a la τ') (hat : va_at D vwC (x, e1) H1) (hq : ∀ q : Nat, q < H.size → ¬ q = x → H1[q]? = H[q]?) (hS : va_S (rW a) s.heap H1 locs1) : I2 D J a b lb τb s la τ' H1 locs1 := by
  have hx := ctW_at P _ h0
  have hl0 := (List.getElem?_eq_some_iff.mp h0).1
  refine ⟨?_, h.2.1.kept (fun k q hk => hq q.1 (h.2.1 k q hk).lt (fun e => ?_)), hS⟩
  · rw [← hs]
    intro k q hk
    by_cases hkp : k = P
    · subst hkp
      rw [List.getElem?_set_self hl0] at hk
      cases hk
      exact hat
    · rw [List.getElem?_set_ne (Ne.symm hkp)] at hk
      have h2 := ctW_at k q hk
      have h4 : x = a + P := hx.1
      exact (h.1 k q hk).kept (hq q.1 (h.1 k q hk).lt (fun e => hkp (by omega)))
  · have h2 := ctW_at k q hk
    have h4 : x = a + P := hx.1
    omega
/-- World.likens -/
def LikC : Prop := ∀ (l : Launch) (D : va_G) (J : Nat → ClassId) (z : Nat) (aK aV : Nat → Nat) (a b : Nat) (la lb : Option Nat) (τ τb : Mm), z ≤ a → (a + 19 < b ∨ b + 19 < a) → okZ 6 (τb 14) = true → okZ 8 (τb 15) = true →
  Met l yX2_likens (ws_ yX2_likens cX2_likens 2 (some (.object RX2))) ({ frames := 3, cells := 0, slots := 0, locals := 200 }) (va_Pc [.ref a, .ref b] (fun U => (va_P D vwC (ctW J a la τ) U.heap ∧ va_P D vwC (ctW J b lb τb) U.heap) ∧ EC D J z aK aV U)) (va_Qr (fun (_ : Unit) => True) (fun _ x t => x = a ∧ va_P D vwC (ctW J a lb τb) t.heap) (rW a)) 0 0 (rW a)
set_option maxHeartbeats 4000000 in
theorem mX2_likens : LikC := by
  intro l D J z aK aV a b la lb τ τb hza hd z14 z15
  refine Met.ofW (cc := cX2_likens) (maxL := 2) (ret := some (.object RX2)) (by decide) rfl ?_
  intro p e s m args below meth c s₁ B hml hv
  obtain ⟨rfl, ⟨hfa, hfb⟩, hE⟩ := hv
  have hts := atoms_spec (ws := ws_ yX2_likens cX2_likens 2 (some (.object RX2))) B.pre
  have hts : ∀ w ∈ lw_all, w.before _ s = true := fun w h => hts w (List.mem_cons_of_mem _ h)
  have hown : s.vm.findClass RX2 = some m.cls := findClass_of_methodNamed B.named
  have hl := lv_entry [.ref a, .ref b] (n := 2) (Nat.le_of_ble_eq_true rfl)
  rw [lg_entry_eq]
  generalize (lg_sl [.ref a, .ref b] ++ List.replicate (2 - (lg_sl [.ref a, .ref b]).length) Slot.unset).toArray = ls at hl ⊢
  have hl : lv_has ls 2 [(0, .ref a), (1, .ref b)] := hl
  have hx := B.exec
  have hb := B.bytes
  have hI : I2 D J a b lb τb s la (lkF τ τb 0) s.heap [] := ⟨hfa, hfb, va_S.rf⟩
  obtain ⟨H, eH⟩ : ∃ H, H = s.heap := ⟨_, rfl⟩
  obtain ⟨locs, eL⟩ : ∃ L : List Loc, L = [] := ⟨_, rfl⟩
  rw [← eH, ← eL] at hI ⊢

  refine lv_aload_n hx hb dX2_likens_0 rfl (lv_at hl 0 rfl) ?_
  refine lv_aload_n hx hb dX2_likens_1 rfl (lv_at hl 1 rfl) ?_
  refine gget hx hb hts in_X2 hown hE.1 (hI.2.1 0 _ rfl) rfl 0 (by decide) q194 rfl dX2_likens_2 ?_
  refine gput hx hb hts in_X2 tyX2 tyX2_ok nmX2 hown hE.1 (hI.1 0 _ rfl) rfl 0 (by decide) q194 rfl rfl rfl (Nat.le_of_ble_eq_true rfl) dX2_likens_5 (fun H locs h1 h2 h3 h4 => ?_)
  have hI := hI.put hd (P := 0) (la' := la) (τ' := lkF τ τb 1) rfl rfl h1 h2 h3 h4
  refine lv_aload_n hx hb dX2_likens_8 rfl (lv_at hl 0 rfl) ?_
  refine lv_aload_n hx hb dX2_likens_9 rfl (lv_at hl 1 rfl) ?_
  refine gget hx hb hts in_X2 hown hE.1 (hI.2.1 0 _ rfl) rfl 1 (by decide) q196 rfl dX2_likens_10 ?_
  refine gput hx hb hts in_X2 tyX2 tyX2_ok nmX2 hown hE.1 (hI.1 0 _ rfl) rfl 1 (by decide) q196 rfl rfl rfl (Nat.le_of_ble_eq_true rfl) dX2_likens_13 (fun H locs h1 h2 h3 h4 => ?_)
  have hI := hI.put hd (P := 0) (la' := la) (τ' := lkF τ τb 2) rfl rfl h1 h2 h3 h4
  refine lv_aload_n hx hb dX2_likens_16 rfl (lv_at hl 0 rfl) ?_
  refine lv_aload_n hx hb dX2_likens_17 rfl (lv_at hl 1 rfl) ?_
  refine gget hx hb hts in_X2 hown hE.1 (hI.2.1 0 _ rfl) rfl 2 (by decide) q198 rfl dX2_likens_18 ?_
  refine gput hx hb hts in_X2 tyX2 tyX2_ok nmX2 hown hE.1 (hI.1 0 _ rfl) rfl 2 (by decide) q198 rfl rfl rfl (Nat.le_of_ble_eq_true rfl) dX2_likens_21 (fun H locs h1 h2 h3 h4 => ?_)
  have hI := hI.put hd (P := 0) (la' := la) (τ' := lkF τ τb 3) rfl rfl h1 h2 h3 h4
  refine lv_aload_n hx hb dX2_likens_24 rfl (lv_at hl 0 rfl) ?_
  refine lv_aload_n hx hb dX2_likens_25 rfl (lv_at hl 1 rfl) ?_
  refine gget hx hb hts in_X2 hown hE.1 (hI.2.1 0 _ rfl) rfl 3 (by decide) q201 rfl dX2_likens_26 ?_
  refine gput hx hb hts in_X2 tyX2 tyX2_ok nmX2 hown hE.1 (hI.1 0 _ rfl) rfl 3 (by decide) q201 rfl rfl rfl (Nat.le_of_ble_eq_true rfl) dX2_likens_29 (fun H locs h1 h2 h3 h4 => ?_)
  have hI := hI.put hd (P := 0) (la' := la) (τ' := lkF τ τb 4) rfl rfl h1 h2 h3 h4
  refine lv_aload_n hx hb dX2_likens_32 rfl (lv_at hl 0 rfl) ?_
  refine lv_aload_n hx hb dX2_likens_33 rfl (lv_at hl 1 rfl) ?_
  refine gget hx hb hts in_X2 hown hE.1 (hI.2.1 0 _ rfl) rfl 4 (by decide) q204 rfl dX2_likens_34 ?_
  refine gput hx hb hts in_X2 tyX2 tyX2_ok nmX2 hown hE.1 (hI.1 0 _ rfl) rfl 4 (by decide) q204 rfl rfl rfl (Nat.le_of_ble_eq_true rfl) dX2_likens_37 (fun H locs h1 h2 h3 h4 => ?_)
  have hI := hI.put hd (P := 0) (la' := la) (τ' := lkF τ τb 5) rfl rfl h1 h2 h3 h4
  refine lv_aload_n hx hb dX2_likens_40 rfl (lv_at hl 0 rfl) ?_
  refine lv_aload_n hx hb dX2_likens_41 rfl (lv_at hl 1 rfl) ?_
  refine gget hx hb hts in_X2 hown hE.1 (hI.2.1 0 _ rfl) rfl 5 (by decide) q206 rfl dX2_likens_42 ?_
  refine gput hx hb hts in_X2 tyX2 tyX2_ok nmX2 hown hE.1 (hI.1 0 _ rfl) rfl 5 (by decide) q206 rfl rfl rfl (Nat.le_of_ble_eq_true rfl) dX2_likens_45 (fun H locs h1 h2 h3 h4 => ?_)
  have hI := hI.put hd (P := 0) (la' := la) (τ' := lkF τ τb 6) rfl rfl h1 h2 h3 h4
  refine lv_aload_n hx hb dX2_likens_48 rfl (lv_at hl 0 rfl) ?_
  refine lv_aload_n hx hb dX2_likens_49 rfl (lv_at hl 1 rfl) ?_
  refine gget hx hb hts in_X2 hown hE.1 (hI.2.1 0 _ rfl) rfl 6 (by decide) q208 rfl dX2_likens_50 ?_
  refine gput hx hb hts in_X2 tyX2 tyX2_ok nmX2 hown hE.1 (hI.1 0 _ rfl) rfl 6 (by decide) q208 rfl rfl rfl (Nat.le_of_ble_eq_true rfl) dX2_likens_53 (fun H locs h1 h2 h3 h4 => ?_)
  have hI := hI.put hd (P := 0) (la' := la) (τ' := lkF τ τb 7) rfl rfl h1 h2 h3 h4
  refine lv_aload_n hx hb dX2_likens_56 rfl (lv_at hl 0 rfl) ?_
  refine lv_aload_n hx hb dX2_likens_57 rfl (lv_at hl 1 rfl) ?_
  refine gget hx hb hts in_X2 hown hE.1 (hI.2.1 0 _ rfl) rfl 7 (by decide) q210 rfl dX2_likens_58 ?_
  refine gput hx hb hts in_X2 tyX2 tyX2_ok nmX2 hown hE.1 (hI.1 0 _ rfl) rfl 7 (by decide) q210 rfl rfl rfl (Nat.le_of_ble_eq_true rfl) dX2_likens_61 (fun H locs h1 h2 h3 h4 => ?_)
  have hI := hI.put hd (P := 0) (la' := la) (τ' := lkF τ τb 8) rfl rfl h1 h2 h3 h4
  refine lv_aload_n hx hb dX2_likens_64 rfl (lv_at hl 0 rfl) ?_
  refine lv_aload_n hx hb dX2_likens_65 rfl (lv_at hl 1 rfl) ?_
  refine gget hx hb hts in_X2 hown hE.1 (hI.2.1 0 _ rfl) rfl 8 (by decide) q212 rfl dX2_likens_66 ?_
  refine gput hx hb hts in_X2 tyX2 tyX2_ok nmX2 hown hE.1 (hI.1 0 _ rfl) rfl 8 (by decide) q212 rfl rfl rfl (Nat.le_of_ble_eq_true rfl) dX2_likens_69 (fun H locs h1 h2 h3 h4 => ?_)
  have hI := hI.put hd (P := 0) (la' := la) (τ' := lkF τ τb 9) rfl rfl h1 h2 h3 h4
  refine lv_aload_n hx hb dX2_likens_72 rfl (lv_at hl 0 rfl) ?_
  refine lv_aload_n hx hb dX2_likens_73 rfl (lv_at hl 1 rfl) ?_
  refine gget hx hb hts in_X2 hown hE.1 (hI.2.1 0 _ rfl) rfl 28 (by decide) q257 rfl dX2_likens_74 ?_
  refine gput hx hb hts in_X2 tyX2 tyX2_ok nmX2 hown hE.1 (hI.1 0 _ rfl) rfl 28 (by decide) q257 rfl (by cases lb <;> rfl) (by cases lb <;> rfl) (Nat.le_of_ble_eq_true rfl) dX2_likens_77 (fun H locs h1 h2 h3 h4 => ?_)
  have hI := hI.put hd (P := 0) (la' := lb) (τ' := lkF τ τb 9) rfl rfl h1 h2 h3 h4
  refine lv_aload_n hx hb dX2_likens_80 rfl (lv_at hl 1 rfl) ?_
  refine gget hx hb hts in_X2 hown hE.1 (hI.2.1 0 _ rfl) rfl 9 (by decide) q214 rfl dX2_likens_81 ?_
  refine lv_aload_n hx hb dX2_likens_84 rfl (lv_at hl 0 rfl) ?_
  refine gget hx hb hts in_X2 hown hE.1 (hI.1 0 _ rfl) rfl 9 (by decide) q214 rfl dX2_likens_85 ?_
  refine va_callv (va_runS (As := [.ref (b + 1), .ref (a + 1)]) (rest := []) ⟨hx, hb, hml, hown, hts⟩ (mX2_row l D J z aK aV 4 (a + 1) (b + 1) (τb 9) _ rfl (by decide) (Nat.le_trans hza (Nat.le_add_right _ _))) (csX2_row_X2 hts ⟨Nat.le_of_ble_eq_true rfl, Nat.le_of_ble_eq_true rfl⟩) ⟨fun _ U g mk q => ⟨q.1, q.2.1, q.2.2.go (State.WarmedH.refl U) (fun _ _ _ => rfl)⟩, fun U hU hW => ⟨rfl, by rw [hU]; exact ⟨hI.2.1 1 _ rfl, hI.1 1 _ rfl⟩, hE.go hW (fun q h1 h2 => by rw [hU]; exact hI.2.2.2.1 q h1 (fun h3 => h2 (Nat.le_trans hza h3.1)))⟩⟩ rfl rfl hl.1 rfl (lv_room (Nat.le_of_ble_eq_true rfl)) dX2_likens_88 ⟨Nat.zero_le _, Nat.zero_le _⟩) hI.2.2 (fun q _ h => ?_) (fun q h => ?_) (fun u t H1 locs1 ht hvm hp hB hz1 hk1 hS => ?_)
  · rw [show q = _ from h]; exact ⟨Nat.le_add_right _ _, Nat.add_le_add_left (Nat.le_of_ble_eq_true rfl) _⟩
  · rw [show q = _ from h]; exact ⟨Nat.le_add_right _ _, Nat.add_le_add_left (Nat.le_of_ble_eq_true rfl) _⟩
  replace hI := hI.row hd (P := 1) (τ' := lkF τ τb 10) rfl rfl (by rw [← ht]; exact hB) hk1 hS
  clear hk1 hS hB hz1 ht hp hvm
  clear t
  revert hI
  generalize H1 = H
  generalize locs1 = locs
  intro hI
  refine lv_aload_n hx hb dX2_likens_91 rfl (lv_at hl 1 rfl) ?_
  refine gget hx hb hts in_X2 hown hE.1 (hI.2.1 0 _ rfl) rfl 10 (by decide) q216 rfl dX2_likens_92 ?_
  refine lv_aload_n hx hb dX2_likens_95 rfl (lv_at hl 0 rfl) ?_
  refine gget hx hb hts in_X2 hown hE.1 (hI.1 0 _ rfl) rfl 10 (by decide) q216 rfl dX2_likens_96 ?_
  refine va_callv (va_runS (As := [.ref (b + 2), .ref (a + 2)]) (rest := []) ⟨hx, hb, hml, hown, hts⟩ (mX2_row l D J z aK aV 6 (a + 2) (b + 2) (τb 10) _ rfl (by decide) (Nat.le_trans hza (Nat.le_add_right _ _))) (csX2_row_X2 hts ⟨Nat.le_of_ble_eq_true rfl, Nat.le_of_ble_eq_true rfl⟩) ⟨fun _ U g mk q => ⟨q.1, q.2.1, q.2.2.go (State.WarmedH.refl U) (fun _ _ _ => rfl)⟩, fun U hU hW => ⟨rfl, by rw [hU]; exact ⟨hI.2.1 2 _ rfl, hI.1 2 _ rfl⟩, hE.go hW (fun q h1 h2 => by rw [hU]; exact hI.2.2.2.1 q h1 (fun h3 => h2 (Nat.le_trans hza h3.1)))⟩⟩ rfl rfl hl.1 rfl (lv_room (Nat.le_of_ble_eq_true rfl)) dX2_likens_99 ⟨Nat.zero_le _, Nat.zero_le _⟩) hI.2.2 (fun q _ h => ?_) (fun q h => ?_) (fun u t H1 locs1 ht hvm hp hB hz1 hk1 hS => ?_)
  · rw [show q = _ from h]; exact ⟨Nat.le_add_right _ _, Nat.add_le_add_left (Nat.le_of_ble_eq_true rfl) _⟩
  · rw [show q = _ from h]; exact ⟨Nat.le_add_right _ _, Nat.add_le_add_left (Nat.le_of_ble_eq_true rfl) _⟩
  replace hI := hI.row hd (P := 2) (τ' := lkF τ τb 11) rfl rfl (by rw [← ht]; exact hB) hk1 hS
  clear hk1 hS hB hz1 ht hp hvm
  clear t
  revert hI
  generalize H1 = H
  generalize locs1 = locs
  intro hI
  refine lv_aload_n hx hb dX2_likens_102 rfl (lv_at hl 1 rfl) ?_
  refine gget hx hb hts in_X2 hown hE.1 (hI.2.1 0 _ rfl) rfl 11 (by decide) q218 rfl dX2_likens_103 ?_
  refine lv_aload_n hx hb dX2_likens_106 rfl (lv_at hl 0 rfl) ?_
  refine gget hx hb hts in_X2 hown hE.1 (hI.1 0 _ rfl) rfl 11 (by decide) q218 rfl dX2_likens_107 ?_
  refine va_callv (va_runS (As := [.ref (b + 3), .ref (a + 3)]) (rest := []) ⟨hx, hb, hml, hown, hts⟩ (mX2_row l D J z aK aV 6 (a + 3) (b + 3) (τb 11) _ rfl (by decide) (Nat.le_trans hza (Nat.le_add_right _ _))) (csX2_row_X2 hts ⟨Nat.le_of_ble_eq_true rfl, Nat.le_of_ble_eq_true rfl⟩) ⟨fun _ U g mk q => ⟨q.1, q.2.1, q.2.2.go (State.WarmedH.refl U) (fun _ _ _ => rfl)⟩, fun U hU hW => ⟨rfl, by rw [hU]; exact ⟨hI.2.1 3 _ rfl, hI.1 3 _ rfl⟩, hE.go hW (fun q h1 h2 => by rw [hU]; exact hI.2.2.2.1 q h1 (fun h3 => h2 (Nat.le_trans hza h3.1)))⟩⟩ rfl rfl hl.1 rfl (lv_room (Nat.le_of_ble_eq_true rfl)) dX2_likens_110 ⟨Nat.zero_le _, Nat.zero_le _⟩) hI.2.2 (fun q _ h => ?_) (fun q h => ?_) (fun u t H1 locs1 ht hvm hp hB hz1 hk1 hS => ?_)
  · rw [show q = _ from h]; exact ⟨Nat.le_add_right _ _, Nat.add_le_add_left (Nat.le_of_ble_eq_true rfl) _⟩
  · rw [show q = _ from h]; exact ⟨Nat.le_add_right _ _, Nat.add_le_add_left (Nat.le_of_ble_eq_true rfl) _⟩
  replace hI := hI.row hd (P := 3) (τ' := lkF τ τb 12) rfl rfl (by rw [← ht]; exact hB) hk1 hS
  clear hk1 hS hB hz1 ht hp hvm
  clear t
  revert hI
  generalize H1 = H
  generalize locs1 = locs
  intro hI
  refine lv_aload_n hx hb dX2_likens_113 rfl (lv_at hl 1 rfl) ?_
  refine gget hx hb hts in_X2 hown hE.1 (hI.2.1 0 _ rfl) rfl 12 (by decide) q220 rfl dX2_likens_114 ?_
  refine lv_aload_n hx hb dX2_likens_117 rfl (lv_at hl 0 rfl) ?_
  refine gget hx hb hts in_X2 hown hE.1 (hI.1 0 _ rfl) rfl 12 (by decide) q220 rfl dX2_likens_118 ?_
  refine va_callv (va_runS (As := [.ref (b + 4), .ref (a + 4)]) (rest := []) ⟨hx, hb, hml, hown, hts⟩ (mX2_row l D J z aK aV 6 (a + 4) (b + 4) (τb 12) _ rfl (by decide) (Nat.le_trans hza (Nat.le_add_right _ _))) (csX2_row_X2 hts ⟨Nat.le_of_ble_eq_true rfl, Nat.le_of_ble_eq_true rfl⟩) ⟨fun _ U g mk q => ⟨q.1, q.2.1, q.2.2.go (State.WarmedH.refl U) (fun _ _ _ => rfl)⟩, fun U hU hW => ⟨rfl, by rw [hU]; exact ⟨hI.2.1 4 _ rfl, hI.1 4 _ rfl⟩, hE.go hW (fun q h1 h2 => by rw [hU]; exact hI.2.2.2.1 q h1 (fun h3 => h2 (Nat.le_trans hza h3.1)))⟩⟩ rfl rfl hl.1 rfl (lv_room (Nat.le_of_ble_eq_true rfl)) dX2_likens_121 ⟨Nat.zero_le _, Nat.zero_le _⟩) hI.2.2 (fun q _ h => ?_) (fun q h => ?_) (fun u t H1 locs1 ht hvm hp hB hz1 hk1 hS => ?_)
  · rw [show q = _ from h]; exact ⟨Nat.le_add_right _ _, Nat.add_le_add_left (Nat.le_of_ble_eq_true rfl) _⟩
  · rw [show q = _ from h]; exact ⟨Nat.le_add_right _ _, Nat.add_le_add_left (Nat.le_of_ble_eq_true rfl) _⟩
  replace hI := hI.row hd (P := 4) (τ' := lkF τ τb 13) rfl rfl (by rw [← ht]; exact hB) hk1 hS
  clear hk1 hS hB hz1 ht hp hvm
  clear t
  revert hI
  generalize H1 = H
  generalize locs1 = locs
  intro hI
  refine lv_aload_n hx hb dX2_likens_124 rfl (lv_at hl 1 rfl) ?_
  refine gget hx hb hts in_X2 hown hE.1 (hI.2.1 0 _ rfl) rfl 13 (by decide) q223 rfl dX2_likens_125 ?_
  refine lv_aload_n hx hb dX2_likens_128 rfl (lv_at hl 0 rfl) ?_
  refine gget hx hb hts in_X2 hown hE.1 (hI.1 0 _ rfl) rfl 13 (by decide) q223 rfl dX2_likens_129 ?_
  refine va_callv (va_runS (As := [.ref (b + 5), .ref (a + 5)]) (rest := []) ⟨hx, hb, hml, hown, hts⟩ (mX2_row l D J z aK aV 6 (a + 5) (b + 5) (τb 13) _ rfl (by decide) (Nat.le_trans hza (Nat.le_add_right _ _))) (csX2_row_X2 hts ⟨Nat.le_of_ble_eq_true rfl, Nat.le_of_ble_eq_true rfl⟩) ⟨fun _ U g mk q => ⟨q.1, q.2.1, q.2.2.go (State.WarmedH.refl U) (fun _ _ _ => rfl)⟩, fun U hU hW => ⟨rfl, by rw [hU]; exact ⟨hI.2.1 5 _ rfl, hI.1 5 _ rfl⟩, hE.go hW (fun q h1 h2 => by rw [hU]; exact hI.2.2.2.1 q h1 (fun h3 => h2 (Nat.le_trans hza h3.1)))⟩⟩ rfl rfl hl.1 rfl (lv_room (Nat.le_of_ble_eq_true rfl)) dX2_likens_132 ⟨Nat.zero_le _, Nat.zero_le _⟩) hI.2.2 (fun q _ h => ?_) (fun q h => ?_) (fun u t H1 locs1 ht hvm hp hB hz1 hk1 hS => ?_)
  · rw [show q = _ from h]; exact ⟨Nat.le_add_right _ _, Nat.add_le_add_left (Nat.le_of_ble_eq_true rfl) _⟩
  · rw [show q = _ from h]; exact ⟨Nat.le_add_right _ _, Nat.add_le_add_left (Nat.le_of_ble_eq_true rfl) _⟩
  replace hI := hI.row hd (P := 5) (τ' := lkF τ τb 14) rfl rfl (by rw [← ht]; exact hB) hk1 hS
  clear hk1 hS hB hz1 ht hp hvm
  clear t
  revert hI
  generalize H1 = H
  generalize locs1 = locs
  intro hI
  refine lv_aload_n hx hb dX2_likens_135 rfl (lv_at hl 1 rfl) ?_
  refine gget hx hb hts in_X2 hown hE.1 (hI.2.1 0 _ rfl) rfl 14 (by decide) q225 rfl dX2_likens_136 ?_
  refine lv_iconst (v := (0 : Int32)) hx hb dX2_likens_139 (by decide) ?_
  refine lv_aload_n hx hb dX2_likens_140 rfl (lv_at hl 0 rfl) ?_
  refine gget hx hb hts in_X2 hown hE.1 (hI.1 0 _ rfl) rfl 14 (by decide) q225 rfl dX2_likens_141 ?_
  refine lv_iconst (v := (0 : Int32)) hx hb dX2_likens_144 (by decide) ?_
  refine lv_bipush (v := (6 : Int32)) hx hb dX2_likens_145 (by decide) ?_
  refine gcopy (rest := []) (f := τb 14) hx hb (by rw [hml, hl.1]) hts hown hE.1 1 q568 (hI.2.1 6 _ rfl) (hI.1 6 _ rfl) rfl rfl (by decide) (fun i hi => zb_f (okZ_e z14 _ (by rw [show (0 : Int32).toNatClampNeg = 0 from rfl, Nat.zero_add]; exact hi))) (Nat.le_of_ble_eq_true rfl) (Nat.le_of_ble_eq_true rfl) dX2_likens_147 (fun H locs h1 h2 h3 h4 => ?_)
  have hI := hI.put hd (P := 6) (la' := lb) (τ' := lkF τ τb 15) rfl rfl (cpy_at h1 rfl) h2 h3 h4
  refine lv_aload_n hx hb dX2_likens_150 rfl (lv_at hl 1 rfl) ?_
  refine gget hx hb hts in_X2 hown hE.1 (hI.2.1 0 _ rfl) rfl 15 (by decide) q227 rfl dX2_likens_151 ?_
  refine lv_iconst (v := (0 : Int32)) hx hb dX2_likens_154 (by decide) ?_
  refine lv_aload_n hx hb dX2_likens_155 rfl (lv_at hl 0 rfl) ?_
  refine gget hx hb hts in_X2 hown hE.1 (hI.1 0 _ rfl) rfl 15 (by decide) q227 rfl dX2_likens_156 ?_
  refine lv_iconst (v := (0 : Int32)) hx hb dX2_likens_159 (by decide) ?_
  refine lv_bipush (v := (8 : Int32)) hx hb dX2_likens_160 (by decide) ?_
  refine gcopy (rest := []) (f := τb 15) hx hb (by rw [hml, hl.1]) hts hown hE.1 1 q568 (hI.2.1 7 _ rfl) (hI.1 7 _ rfl) rfl rfl (by decide) (fun i hi => zb_f (okZ_e z15 _ (by rw [show (0 : Int32).toNatClampNeg = 0 from rfl, Nat.zero_add]; exact hi))) (Nat.le_of_ble_eq_true rfl) (Nat.le_of_ble_eq_true rfl) dX2_likens_162 (fun H locs h1 h2 h3 h4 => ?_)
  have hI := hI.put hd (P := 7) (la' := lb) (τ' := lkF τ τb 16) rfl rfl (cpy_at h1 rfl) h2 h3 h4
  refine lv_aload_n hx hb dX2_likens_165 rfl (lv_at hl 1 rfl) ?_
  refine gget hx hb hts in_X2 hown hE.1 (hI.2.1 0 _ rfl) rfl 16 (by decide) q230 rfl dX2_likens_166 ?_
  refine lv_aload_n hx hb dX2_likens_169 rfl (lv_at hl 0 rfl) ?_
  refine gget hx hb hts in_X2 hown hE.1 (hI.1 0 _ rfl) rfl 16 (by decide) q230 rfl dX2_likens_170 ?_
  refine va_callv (va_runS (As := [.ref (b + 8), .ref (a + 8)]) (rest := []) ⟨hx, hb, hml, hown, hts⟩ (mX2_row l D J z aK aV 8 (a + 8) (b + 8) (τb 16) _ rfl (by decide) (Nat.le_trans hza (Nat.le_add_right _ _))) (csX2_row_X2 hts ⟨Nat.le_of_ble_eq_true rfl, Nat.le_of_ble_eq_true rfl⟩) ⟨fun _ U g mk q => ⟨q.1, q.2.1, q.2.2.go (State.WarmedH.refl U) (fun _ _ _ => rfl)⟩, fun U hU hW => ⟨rfl, by rw [hU]; exact ⟨hI.2.1 8 _ rfl, hI.1 8 _ rfl⟩, hE.go hW (fun q h1 h2 => by rw [hU]; exact hI.2.2.2.1 q h1 (fun h3 => h2 (Nat.le_trans hza h3.1)))⟩⟩ rfl rfl hl.1 rfl (lv_room (Nat.le_of_ble_eq_true rfl)) dX2_likens_173 ⟨Nat.zero_le _, Nat.zero_le _⟩) hI.2.2 (fun q _ h => ?_) (fun q h => ?_) (fun u t H1 locs1 ht hvm hp hB hz1 hk1 hS => ?_)
  · rw [show q = _ from h]; exact ⟨Nat.le_add_right _ _, Nat.add_le_add_left (Nat.le_of_ble_eq_true rfl) _⟩
  · rw [show q = _ from h]; exact ⟨Nat.le_add_right _ _, Nat.add_le_add_left (Nat.le_of_ble_eq_true rfl) _⟩
  replace hI := hI.row hd (P := 8) (τ' := lkF τ τb 17) rfl rfl (by rw [← ht]; exact hB) hk1 hS
  clear hk1 hS hB hz1 ht hp hvm
  clear t
  revert hI
  generalize H1 = H
  generalize locs1 = locs
  intro hI
  refine lv_aload_n hx hb dX2_likens_176 rfl (lv_at hl 1 rfl) ?_
  refine gget hx hb hts in_X2 hown hE.1 (hI.2.1 0 _ rfl) rfl 17 (by decide) q232 rfl dX2_likens_177 ?_
  refine lv_aload_n hx hb dX2_likens_180 rfl (lv_at hl 0 rfl) ?_
  refine gget hx hb hts in_X2 hown hE.1 (hI.1 0 _ rfl) rfl 17 (by decide) q232 rfl dX2_likens_181 ?_
  refine va_callv (va_runS (As := [.ref (b + 9), .ref (a + 9)]) (rest := []) ⟨hx, hb, hml, hown, hts⟩ (mX2_row l D J z aK aV 8 (a + 9) (b + 9) (τb 17) _ rfl (by decide) (Nat.le_trans hza (Nat.le_add_right _ _))) (csX2_row_X2 hts ⟨Nat.le_of_ble_eq_true rfl, Nat.le_of_ble_eq_true rfl⟩) ⟨fun _ U g mk q => ⟨q.1, q.2.1, q.2.2.go (State.WarmedH.refl U) (fun _ _ _ => rfl)⟩, fun U hU hW => ⟨rfl, by rw [hU]; exact ⟨hI.2.1 9 _ rfl, hI.1 9 _ rfl⟩, hE.go hW (fun q h1 h2 => by rw [hU]; exact hI.2.2.2.1 q h1 (fun h3 => h2 (Nat.le_trans hza h3.1)))⟩⟩ rfl rfl hl.1 rfl (lv_room (Nat.le_of_ble_eq_true rfl)) dX2_likens_184 ⟨Nat.zero_le _, Nat.zero_le _⟩) hI.2.2 (fun q _ h => ?_) (fun q h => ?_) (fun u t H1 locs1 ht hvm hp hB hz1 hk1 hS => ?_)
  · rw [show q = _ from h]; exact ⟨Nat.le_add_right _ _, Nat.add_le_add_left (Nat.le_of_ble_eq_true rfl) _⟩
  · rw [show q = _ from h]; exact ⟨Nat.le_add_right _ _, Nat.add_le_add_left (Nat.le_of_ble_eq_true rfl) _⟩
  replace hI := hI.row hd (P := 9) (τ' := lkF τ τb 18) rfl rfl (by rw [← ht]; exact hB) hk1 hS
  clear hk1 hS hB hz1 ht hp hvm
  clear t
  revert hI
  generalize H1 = H
  generalize locs1 = locs
  intro hI
  refine lv_aload_n hx hb dX2_likens_187 rfl (lv_at hl 1 rfl) ?_
  refine gget hx hb hts in_X2 hown hE.1 (hI.2.1 0 _ rfl) rfl 18 (by decide) q235 rfl dX2_likens_188 ?_
  refine lv_aload_n hx hb dX2_likens_191 rfl (lv_at hl 0 rfl) ?_
  refine gget hx hb hts in_X2 hown hE.1 (hI.1 0 _ rfl) rfl 18 (by decide) q235 rfl dX2_likens_192 ?_
  refine va_callv (va_runS (As := [.ref (b + 10), .ref (a + 10)]) (rest := []) ⟨hx, hb, hml, hown, hts⟩ (mX2_row l D J z aK aV 8 (a + 10) (b + 10) (τb 18) _ rfl (by decide) (Nat.le_trans hza (Nat.le_add_right _ _))) (csX2_row_X2 hts ⟨Nat.le_of_ble_eq_true rfl, Nat.le_of_ble_eq_true rfl⟩) ⟨fun _ U g mk q => ⟨q.1, q.2.1, q.2.2.go (State.WarmedH.refl U) (fun _ _ _ => rfl)⟩, fun U hU hW => ⟨rfl, by rw [hU]; exact ⟨hI.2.1 10 _ rfl, hI.1 10 _ rfl⟩, hE.go hW (fun q h1 h2 => by rw [hU]; exact hI.2.2.2.1 q h1 (fun h3 => h2 (Nat.le_trans hza h3.1)))⟩⟩ rfl rfl hl.1 rfl (lv_room (Nat.le_of_ble_eq_true rfl)) dX2_likens_195 ⟨Nat.zero_le _, Nat.zero_le _⟩) hI.2.2 (fun q _ h => ?_) (fun q h => ?_) (fun u t H1 locs1 ht hvm hp hB hz1 hk1 hS => ?_)
  · rw [show q = _ from h]; exact ⟨Nat.le_add_right _ _, Nat.add_le_add_left (Nat.le_of_ble_eq_true rfl) _⟩
  · rw [show q = _ from h]; exact ⟨Nat.le_add_right _ _, Nat.add_le_add_left (Nat.le_of_ble_eq_true rfl) _⟩
  replace hI := hI.row hd (P := 10) (τ' := lkF τ τb 19) rfl rfl (by rw [← ht]; exact hB) hk1 hS
  clear hk1 hS hB hz1 ht hp hvm
  clear t
  revert hI
  generalize H1 = H
  generalize locs1 = locs
  intro hI
  refine lv_aload_n hx hb dX2_likens_198 rfl (lv_at hl 1 rfl) ?_
  refine gget hx hb hts in_X2 hown hE.1 (hI.2.1 0 _ rfl) rfl 19 (by decide) q238 rfl dX2_likens_199 ?_
  refine lv_aload_n hx hb dX2_likens_202 rfl (lv_at hl 0 rfl) ?_
  refine gget hx hb hts in_X2 hown hE.1 (hI.1 0 _ rfl) rfl 19 (by decide) q238 rfl dX2_likens_203 ?_
  refine va_callv (va_runS (As := [.ref (b + 11), .ref (a + 11)]) (rest := []) ⟨hx, hb, hml, hown, hts⟩ (mX2_row l D J z aK aV 8 (a + 11) (b + 11) (τb 19) _ rfl (by decide) (Nat.le_trans hza (Nat.le_add_right _ _))) (csX2_row_X2 hts ⟨Nat.le_of_ble_eq_true rfl, Nat.le_of_ble_eq_true rfl⟩) ⟨fun _ U g mk q => ⟨q.1, q.2.1, q.2.2.go (State.WarmedH.refl U) (fun _ _ _ => rfl)⟩, fun U hU hW => ⟨rfl, by rw [hU]; exact ⟨hI.2.1 11 _ rfl, hI.1 11 _ rfl⟩, hE.go hW (fun q h1 h2 => by rw [hU]; exact hI.2.2.2.1 q h1 (fun h3 => h2 (Nat.le_trans hza h3.1)))⟩⟩ rfl rfl hl.1 rfl (lv_room (Nat.le_of_ble_eq_true rfl)) dX2_likens_206 ⟨Nat.zero_le _, Nat.zero_le _⟩) hI.2.2 (fun q _ h => ?_) (fun q h => ?_) (fun u t H1 locs1 ht hvm hp hB hz1 hk1 hS => ?_)
  · rw [show q = _ from h]; exact ⟨Nat.le_add_right _ _, Nat.add_le_add_left (Nat.le_of_ble_eq_true rfl) _⟩
  · rw [show q = _ from h]; exact ⟨Nat.le_add_right _ _, Nat.add_le_add_left (Nat.le_of_ble_eq_true rfl) _⟩
  replace hI := hI.row hd (P := 11) (τ' := lkF τ τb 20) rfl rfl (by rw [← ht]; exact hB) hk1 hS
  clear hk1 hS hB hz1 ht hp hvm
  clear t
  revert hI
  generalize H1 = H
  generalize locs1 = locs
  intro hI
  refine lv_aload_n hx hb dX2_likens_209 rfl (lv_at hl 1 rfl) ?_
  refine gget hx hb hts in_X2 hown hE.1 (hI.2.1 0 _ rfl) rfl 20 (by decide) q241 rfl dX2_likens_210 ?_
  refine lv_aload_n hx hb dX2_likens_213 rfl (lv_at hl 0 rfl) ?_
  refine gget hx hb hts in_X2 hown hE.1 (hI.1 0 _ rfl) rfl 20 (by decide) q241 rfl dX2_likens_214 ?_
  refine va_callv (va_runS (As := [.ref (b + 12), .ref (a + 12)]) (rest := []) ⟨hx, hb, hml, hown, hts⟩ (mX2_row l D J z aK aV 8 (a + 12) (b + 12) (τb 20) _ rfl (by decide) (Nat.le_trans hza (Nat.le_add_right _ _))) (csX2_row_X2 hts ⟨Nat.le_of_ble_eq_true rfl, Nat.le_of_ble_eq_true rfl⟩) ⟨fun _ U g mk q => ⟨q.1, q.2.1, q.2.2.go (State.WarmedH.refl U) (fun _ _ _ => rfl)⟩, fun U hU hW => ⟨rfl, by rw [hU]; exact ⟨hI.2.1 12 _ rfl, hI.1 12 _ rfl⟩, hE.go hW (fun q h1 h2 => by rw [hU]; exact hI.2.2.2.1 q h1 (fun h3 => h2 (Nat.le_trans hza h3.1)))⟩⟩ rfl rfl hl.1 rfl (lv_room (Nat.le_of_ble_eq_true rfl)) dX2_likens_217 ⟨Nat.zero_le _, Nat.zero_le _⟩) hI.2.2 (fun q _ h => ?_) (fun q h => ?_) (fun u t H1 locs1 ht hvm hp hB hz1 hk1 hS => ?_)
  · rw [show q = _ from h]; exact ⟨Nat.le_add_right _ _, Nat.add_le_add_left (Nat.le_of_ble_eq_true rfl) _⟩
  · rw [show q = _ from h]; exact ⟨Nat.le_add_right _ _, Nat.add_le_add_left (Nat.le_of_ble_eq_true rfl) _⟩
  replace hI := hI.row hd (P := 12) (τ' := lkF τ τb 21) rfl rfl (by rw [← ht]; exact hB) hk1 hS
  clear hk1 hS hB hz1 ht hp hvm
  clear t
  revert hI
  generalize H1 = H
  generalize locs1 = locs
  intro hI
  refine lv_aload_n hx hb dX2_likens_220 rfl (lv_at hl 1 rfl) ?_
  refine gget hx hb hts in_X2 hown hE.1 (hI.2.1 0 _ rfl) rfl 21 (by decide) q243 rfl dX2_likens_221 ?_
  refine lv_aload_n hx hb dX2_likens_224 rfl (lv_at hl 0 rfl) ?_
  refine gget hx hb hts in_X2 hown hE.1 (hI.1 0 _ rfl) rfl 21 (by decide) q243 rfl dX2_likens_225 ?_
  refine va_callv (va_runS (As := [.ref (b + 13), .ref (a + 13)]) (rest := []) ⟨hx, hb, hml, hown, hts⟩ (mX2_row l D J z aK aV 8 (a + 13) (b + 13) (τb 21) _ rfl (by decide) (Nat.le_trans hza (Nat.le_add_right _ _))) (csX2_row_X2 hts ⟨Nat.le_of_ble_eq_true rfl, Nat.le_of_ble_eq_true rfl⟩) ⟨fun _ U g mk q => ⟨q.1, q.2.1, q.2.2.go (State.WarmedH.refl U) (fun _ _ _ => rfl)⟩, fun U hU hW => ⟨rfl, by rw [hU]; exact ⟨hI.2.1 13 _ rfl, hI.1 13 _ rfl⟩, hE.go hW (fun q h1 h2 => by rw [hU]; exact hI.2.2.2.1 q h1 (fun h3 => h2 (Nat.le_trans hza h3.1)))⟩⟩ rfl rfl hl.1 rfl (lv_room (Nat.le_of_ble_eq_true rfl)) dX2_likens_228 ⟨Nat.zero_le _, Nat.zero_le _⟩) hI.2.2 (fun q _ h => ?_) (fun q h => ?_) (fun u t H1 locs1 ht hvm hp hB hz1 hk1 hS => ?_)
  · rw [show q = _ from h]; exact ⟨Nat.le_add_right _ _, Nat.add_le_add_left (Nat.le_of_ble_eq_true rfl) _⟩
  · rw [show q = _ from h]; exact ⟨Nat.le_add_right _ _, Nat.add_le_add_left (Nat.le_of_ble_eq_true rfl) _⟩
  replace hI := hI.row hd (P := 13) (τ' := lkF τ τb 22) rfl rfl (by rw [← ht]; exact hB) hk1 hS
  clear hk1 hS hB hz1 ht hp hvm
  clear t
  revert hI
  generalize H1 = H
  generalize locs1 = locs
  intro hI
  refine lv_aload_n hx hb dX2_likens_231 rfl (lv_at hl 1 rfl) ?_
  refine gget hx hb hts in_X2 hown hE.1 (hI.2.1 0 _ rfl) rfl 22 (by decide) q245 rfl dX2_likens_232 ?_
  refine lv_aload_n hx hb dX2_likens_235 rfl (lv_at hl 0 rfl) ?_
  refine gget hx hb hts in_X2 hown hE.1 (hI.1 0 _ rfl) rfl 22 (by decide) q245 rfl dX2_likens_236 ?_
  refine va_callv (va_runS (As := [.ref (b + 14), .ref (a + 14)]) (rest := []) ⟨hx, hb, hml, hown, hts⟩ (mX2_row l D J z aK aV 8 (a + 14) (b + 14) (τb 22) _ rfl (by decide) (Nat.le_trans hza (Nat.le_add_right _ _))) (csX2_row_X2 hts ⟨Nat.le_of_ble_eq_true rfl, Nat.le_of_ble_eq_true rfl⟩) ⟨fun _ U g mk q => ⟨q.1, q.2.1, q.2.2.go (State.WarmedH.refl U) (fun _ _ _ => rfl)⟩, fun U hU hW => ⟨rfl, by rw [hU]; exact ⟨hI.2.1 14 _ rfl, hI.1 14 _ rfl⟩, hE.go hW (fun q h1 h2 => by rw [hU]; exact hI.2.2.2.1 q h1 (fun h3 => h2 (Nat.le_trans hza h3.1)))⟩⟩ rfl rfl hl.1 rfl (lv_room (Nat.le_of_ble_eq_true rfl)) dX2_likens_239 ⟨Nat.zero_le _, Nat.zero_le _⟩) hI.2.2 (fun q _ h => ?_) (fun q h => ?_) (fun u t H1 locs1 ht hvm hp hB hz1 hk1 hS => ?_)
  · rw [show q = _ from h]; exact ⟨Nat.le_add_right _ _, Nat.add_le_add_left (Nat.le_of_ble_eq_true rfl) _⟩
  · rw [show q = _ from h]; exact ⟨Nat.le_add_right _ _, Nat.add_le_add_left (Nat.le_of_ble_eq_true rfl) _⟩
  replace hI := hI.row hd (P := 14) (τ' := lkF τ τb 23) rfl rfl (by rw [← ht]; exact hB) hk1 hS
  clear hk1 hS hB hz1 ht hp hvm
  clear t
  revert hI
  generalize H1 = H
  generalize locs1 = locs
  intro hI
  refine lv_aload_n hx hb dX2_likens_242 rfl (lv_at hl 1 rfl) ?_
  refine gget hx hb hts in_X2 hown hE.1 (hI.2.1 0 _ rfl) rfl 23 (by decide) q247 rfl dX2_likens_243 ?_
  refine lv_aload_n hx hb dX2_likens_246 rfl (lv_at hl 0 rfl) ?_
  refine gget hx hb hts in_X2 hown hE.1 (hI.1 0 _ rfl) rfl 23 (by decide) q247 rfl dX2_likens_247 ?_
  refine va_callv (va_runS (As := [.ref (b + 15), .ref (a + 15)]) (rest := []) ⟨hx, hb, hml, hown, hts⟩ (mX2_row l D J z aK aV 8 (a + 15) (b + 15) (τb 23) _ rfl (by decide) (Nat.le_trans hza (Nat.le_add_right _ _))) (csX2_row_X2 hts ⟨Nat.le_of_ble_eq_true rfl, Nat.le_of_ble_eq_true rfl⟩) ⟨fun _ U g mk q => ⟨q.1, q.2.1, q.2.2.go (State.WarmedH.refl U) (fun _ _ _ => rfl)⟩, fun U hU hW => ⟨rfl, by rw [hU]; exact ⟨hI.2.1 15 _ rfl, hI.1 15 _ rfl⟩, hE.go hW (fun q h1 h2 => by rw [hU]; exact hI.2.2.2.1 q h1 (fun h3 => h2 (Nat.le_trans hza h3.1)))⟩⟩ rfl rfl hl.1 rfl (lv_room (Nat.le_of_ble_eq_true rfl)) dX2_likens_250 ⟨Nat.zero_le _, Nat.zero_le _⟩) hI.2.2 (fun q _ h => ?_) (fun q h => ?_) (fun u t H1 locs1 ht hvm hp hB hz1 hk1 hS => ?_)
  · rw [show q = _ from h]; exact ⟨Nat.le_add_right _ _, Nat.add_le_add_left (Nat.le_of_ble_eq_true rfl) _⟩
  · rw [show q = _ from h]; exact ⟨Nat.le_add_right _ _, Nat.add_le_add_left (Nat.le_of_ble_eq_true rfl) _⟩
  replace hI := hI.row hd (P := 15) (τ' := lkF τ τb 24) rfl rfl (by rw [← ht]; exact hB) hk1 hS
  clear hk1 hS hB hz1 ht hp hvm
  clear t
  revert hI
  generalize H1 = H
  generalize locs1 = locs
  intro hI
  refine lv_aload_n hx hb dX2_likens_253 rfl (lv_at hl 1 rfl) ?_
  refine gget hx hb hts in_X2 hown hE.1 (hI.2.1 0 _ rfl) rfl 24 (by decide) q249 rfl dX2_likens_254 ?_
  refine lv_aload_n hx hb dX2_likens_257 rfl (lv_at hl 0 rfl) ?_
  refine gget hx hb hts in_X2 hown hE.1 (hI.1 0 _ rfl) rfl 24 (by decide) q249 rfl dX2_likens_258 ?_
  refine va_callv (va_runS (As := [.ref (b + 16), .ref (a + 16)]) (rest := []) ⟨hx, hb, hml, hown, hts⟩ (mX2_row l D J z aK aV 8 (a + 16) (b + 16) (τb 24) _ rfl (by decide) (Nat.le_trans hza (Nat.le_add_right _ _))) (csX2_row_X2 hts ⟨Nat.le_of_ble_eq_true rfl, Nat.le_of_ble_eq_true rfl⟩) ⟨fun _ U g mk q => ⟨q.1, q.2.1, q.2.2.go (State.WarmedH.refl U) (fun _ _ _ => rfl)⟩, fun U hU hW => ⟨rfl, by rw [hU]; exact ⟨hI.2.1 16 _ rfl, hI.1 16 _ rfl⟩, hE.go hW (fun q h1 h2 => by rw [hU]; exact hI.2.2.2.1 q h1 (fun h3 => h2 (Nat.le_trans hza h3.1)))⟩⟩ rfl rfl hl.1 rfl (lv_room (Nat.le_of_ble_eq_true rfl)) dX2_likens_261 ⟨Nat.zero_le _, Nat.zero_le _⟩) hI.2.2 (fun q _ h => ?_) (fun q h => ?_) (fun u t H1 locs1 ht hvm hp hB hz1 hk1 hS => ?_)
  · rw [show q = _ from h]; exact ⟨Nat.le_add_right _ _, Nat.add_le_add_left (Nat.le_of_ble_eq_true rfl) _⟩
  · rw [show q = _ from h]; exact ⟨Nat.le_add_right _ _, Nat.add_le_add_left (Nat.le_of_ble_eq_true rfl) _⟩
  replace hI := hI.row hd (P := 16) (τ' := lkF τ τb 25) rfl rfl (by rw [← ht]; exact hB) hk1 hS
  clear hk1 hS hB hz1 ht hp hvm
  clear t
  revert hI
  generalize H1 = H
  generalize locs1 = locs
  intro hI
  refine lv_aload_n hx hb dX2_likens_264 rfl (lv_at hl 1 rfl) ?_
  refine gget hx hb hts in_X2 hown hE.1 (hI.2.1 0 _ rfl) rfl 25 (by decide) q251 rfl dX2_likens_265 ?_
  refine lv_aload_n hx hb dX2_likens_268 rfl (lv_at hl 0 rfl) ?_
  refine gget hx hb hts in_X2 hown hE.1 (hI.1 0 _ rfl) rfl 25 (by decide) q251 rfl dX2_likens_269 ?_
  refine va_callv (va_runS (As := [.ref (b + 17), .ref (a + 17)]) (rest := []) ⟨hx, hb, hml, hown, hts⟩ (mX2_row l D J z aK aV 8 (a + 17) (b + 17) (τb 25) _ rfl (by decide) (Nat.le_trans hza (Nat.le_add_right _ _))) (csX2_row_X2 hts ⟨Nat.le_of_ble_eq_true rfl, Nat.le_of_ble_eq_true rfl⟩) ⟨fun _ U g mk q => ⟨q.1, q.2.1, q.2.2.go (State.WarmedH.refl U) (fun _ _ _ => rfl)⟩, fun U hU hW => ⟨rfl, by rw [hU]; exact ⟨hI.2.1 17 _ rfl, hI.1 17 _ rfl⟩, hE.go hW (fun q h1 h2 => by rw [hU]; exact hI.2.2.2.1 q h1 (fun h3 => h2 (Nat.le_trans hza h3.1)))⟩⟩ rfl rfl hl.1 rfl (lv_room (Nat.le_of_ble_eq_true rfl)) dX2_likens_272 ⟨Nat.zero_le _, Nat.zero_le _⟩) hI.2.2 (fun q _ h => ?_) (fun q h => ?_) (fun u t H1 locs1 ht hvm hp hB hz1 hk1 hS => ?_)
  · rw [show q = _ from h]; exact ⟨Nat.le_add_right _ _, Nat.add_le_add_left (Nat.le_of_ble_eq_true rfl) _⟩
  · rw [show q = _ from h]; exact ⟨Nat.le_add_right _ _, Nat.add_le_add_left (Nat.le_of_ble_eq_true rfl) _⟩
  replace hI := hI.row hd (P := 17) (τ' := lkF τ τb 26) rfl rfl (by rw [← ht]; exact hB) hk1 hS
  clear hk1 hS hB hz1 ht hp hvm
  clear t
  revert hI
  generalize H1 = H
  generalize locs1 = locs
  intro hI
  refine lv_aload_n hx hb dX2_likens_275 rfl (lv_at hl 1 rfl) ?_
  refine gget hx hb hts in_X2 hown hE.1 (hI.2.1 0 _ rfl) rfl 26 (by decide) q253 rfl dX2_likens_276 ?_
  refine lv_aload_n hx hb dX2_likens_279 rfl (lv_at hl 0 rfl) ?_
  refine gget hx hb hts in_X2 hown hE.1 (hI.1 0 _ rfl) rfl 26 (by decide) q253 rfl dX2_likens_280 ?_
  refine va_callv (va_runS (As := [.ref (b + 18), .ref (a + 18)]) (rest := []) ⟨hx, hb, hml, hown, hts⟩ (mX2_row l D J z aK aV 8 (a + 18) (b + 18) (τb 26) _ rfl (by decide) (Nat.le_trans hza (Nat.le_add_right _ _))) (csX2_row_X2 hts ⟨Nat.le_of_ble_eq_true rfl, Nat.le_of_ble_eq_true rfl⟩) ⟨fun _ U g mk q => ⟨q.1, q.2.1, q.2.2.go (State.WarmedH.refl U) (fun _ _ _ => rfl)⟩, fun U hU hW => ⟨rfl, by rw [hU]; exact ⟨hI.2.1 18 _ rfl, hI.1 18 _ rfl⟩, hE.go hW (fun q h1 h2 => by rw [hU]; exact hI.2.2.2.1 q h1 (fun h3 => h2 (Nat.le_trans hza h3.1)))⟩⟩ rfl rfl hl.1 rfl (lv_room (Nat.le_of_ble_eq_true rfl)) dX2_likens_283 ⟨Nat.zero_le _, Nat.zero_le _⟩) hI.2.2 (fun q _ h => ?_) (fun q h => ?_) (fun u t H1 locs1 ht hvm hp hB hz1 hk1 hS => ?_)
  · rw [show q = _ from h]; exact ⟨Nat.le_add_right _ _, Nat.add_le_add_left (Nat.le_of_ble_eq_true rfl) _⟩
  · rw [show q = _ from h]; exact ⟨Nat.le_add_right _ _, Nat.add_le_add_left (Nat.le_of_ble_eq_true rfl) _⟩
  replace hI := hI.row hd (P := 18) (τ' := lkF τ τb 27) rfl rfl (by rw [← ht]; exact hB) hk1 hS
  clear hk1 hS hB hz1 ht hp hvm
  clear t
  revert hI
  generalize H1 = H
  generalize locs1 = locs
  intro hI
  refine lv_aload_n hx hb dX2_likens_286 rfl (lv_at hl 1 rfl) ?_
  refine gget hx hb hts in_X2 hown hE.1 (hI.2.1 0 _ rfl) rfl 27 (by decide) q255 rfl dX2_likens_287 ?_
  refine lv_aload_n hx hb dX2_likens_290 rfl (lv_at hl 0 rfl) ?_
  refine gget hx hb hts in_X2 hown hE.1 (hI.1 0 _ rfl) rfl 27 (by decide) q255 rfl dX2_likens_291 ?_
  refine va_callv (va_runS (As := [.ref (b + 19), .ref (a + 19)]) (rest := []) ⟨hx, hb, hml, hown, hts⟩ (mX2_row l D J z aK aV 240 (a + 19) (b + 19) (τb 27) _ rfl (by decide) (Nat.le_trans hza (Nat.le_add_right _ _))) (csX2_row_X2 hts ⟨Nat.le_of_ble_eq_true rfl, Nat.le_of_ble_eq_true rfl⟩) ⟨fun _ U g mk q => ⟨q.1, q.2.1, q.2.2.go (State.WarmedH.refl U) (fun _ _ _ => rfl)⟩, fun U hU hW => ⟨rfl, by rw [hU]; exact ⟨hI.2.1 19 _ rfl, hI.1 19 _ rfl⟩, hE.go hW (fun q h1 h2 => by rw [hU]; exact hI.2.2.2.1 q h1 (fun h3 => h2 (Nat.le_trans hza h3.1)))⟩⟩ rfl rfl hl.1 rfl (lv_room (Nat.le_of_ble_eq_true rfl)) dX2_likens_294 ⟨Nat.zero_le _, Nat.zero_le _⟩) hI.2.2 (fun q _ h => ?_) (fun q h => ?_) (fun u t H1 locs1 ht hvm hp hB hz1 hk1 hS => ?_)
  · rw [show q = _ from h]; exact ⟨Nat.le_add_right _ _, Nat.add_le_add_left (Nat.le_of_ble_eq_true rfl) _⟩
  · rw [show q = _ from h]; exact ⟨Nat.le_add_right _ _, Nat.add_le_add_left (Nat.le_of_ble_eq_true rfl) _⟩
  replace hI := hI.row hd (P := 19) (τ' := lkF τ τb 28) rfl rfl (by rw [← ht]; exact hB) hk1 hS
  clear hk1 hS hB hz1 ht hp hvm
  clear t
  revert hI
  generalize H1 = H
  generalize locs1 = locs
  intro hI
  refine lv_aload_n hx hb dX2_likens_297 rfl (lv_at hl 0 rfl) ?_
  refine W.aret hx hb B.returns (Or.inl ⟨RX2, rfl⟩) (Or.inr ⟨a, rfl⟩) (fun t ht hW => ⟨⟨(), a, rfl, trivial, rfl, by show va_P D vwC _ t.heap; rw [ht]; exact hI.1⟩, hI.2.2.F ht⟩) hI.2.2.2.2 dX2_likens_298 B.notSynchronized
theorem cwX2_likens_X1 {R : Room} {s : State} {args : Array Value} {fr lo : Nat} (hts : ∀ w ∈ lw_all, w.before args s = true) (hR : fr + 1 ≤ R.frames ∧ 8 + (2 + 11) + lo ≤ R.locals) : CallW R s args RX1 RX2 237 yX2_likens cX2_likens 2 (some (.object "LateInks$World")) (ws_ yX2_likens cX2_likens 2 (some (.object "LateInks$World"))) ({ frames := fr, cells := 0, slots := 0, locals := lo }) 0 0 1 :=
  cwV 1 hts (lw_V q561 q562 q563 q134 q564) rfl rfl rfl (by decide +kernel) hR
def clk (σ : Cs) (i j : Nat) : Option Cs := if okZ 6 (cw σ j 14) = true ∧ okZ 8 (cw σ j 15) = true then some (clu (cwu σ i (cw σ j)) i (cl σ j)) else none

theorem clikens {p : Program} {l : Launch} {e : Env} {R : Room} {s : State} {m : MethodId} {args : Array Value} {below : List Frame} {meth : Method} {c : Code} {H : Heap} {locs : List Loc} {cells slots : Nat} {Q : State → Prop} {cc : ByteArray} {pc : Nat} {ls : Array Slot} {rest : List Value} {D : va_G} {J : Nat → ClassId} {o z : Nat} {aK aV : Nat → Nat} {G Ld : Nat → Prop} {aF : Nat → Nat} {Λ : Nat → Nat → (Nat → Int32) → Int32} {Λn : Nat → Int32} {σ σ' : Cs} (hx : p.tables.exec = Jvm.exec) (hb : c.code = cc) (hts : ∀ w ∈ lw_all, w.before args s = true) (hown : s.vm.findClass RX1 = some m.cls) (hE : ECC D J o z aK aV G Ld aF Λ Λn s) (hI : IC D J o Ld s H locs σ) {nL : Nat} (hml : c.maxLocals = nL) (hlsz : ls.size = nL) {i j : Nat} (hi : i < 5) (hj : j < 5) (hij : ¬ i = j) (hk : clk σ i j = some σ')
    (hR : 3 + 1 ≤ R.frames ∧ 300 ≤ R.locals) (hcs : cells ≤ R.cells ∧ slots ≤ R.slots) (hW : 2 * (F0 m pc ls (.ref (wA o j) :: .ref (wA o i) :: rest)).monitorRoom + (rest.map fun v => v.category).sum ≤ 8) (hdg : decode cc pc = .ok (.invokevirtual 237, 3))
    (kk : ∀ (H1 : Heap) (locs1 : List Loc), IC D J o Ld s H1 locs1 σ' → W p l e R s m args below meth c H1 locs1 cells slots Q (F0 m (pc + 3) ls (.ref (wA o i) :: rest))) : W p l e R s m args below meth c H locs cells slots Q (F0 m pc ls (.ref (wA o j) :: .ref (wA o i) :: rest)) := by
  unfold clk at hk
  by_cases hz : okZ 6 (cw σ j 14) = true ∧ okZ 8 (cw σ j 15) = true
  · rw [if_pos hz] at hk
    cases hk
    have hap := wOf_apart i hi j hj hij
    have hM := mX2_likens l D J z aK aV (wA o i) (wA o j) (cl σ i) (cl σ j) (cw σ i) (cw σ j) (Nat.le_trans hE.2.2.1 (Nat.le_add_right _ _)) (by simp only [wA]; omega) hz.1 hz.2
    refine va_callr (va_runV (As := [.ref (wA o j)]) (rest := rest) ⟨hx, hb, hml, hown, hts⟩ hM (cwX2_likens_X1 hts ⟨hR.1, Nat.le_trans (Nat.le_of_ble_eq_true rfl) hR.2⟩) ⟨fun a U g mk q => ?_, g_recv hE.1.1 (hI.1.w i hi 0 rfl) rfl, fun U hU hW => ⟨rfl, by rw [hU]; exact ⟨hI.1.1 i hi, hI.1.1 j hj⟩, (hI.env hE hU hW).1⟩⟩ rfl rfl hlsz rfl hW hdg hcs) hI.2 (fun q _ h => rW_rC hi q h) (fun q h => rW_rC hi q h) (fun u ra t H1 locs1 ht hvm hp hB hz1 hk1 hS => ?_)
    · obtain ⟨q0, qP, qE⟩ := q
      exact ⟨q0, qP, qE.go (State.WarmedH.refl U) (fun _ _ _ => rfl)⟩
    · obtain ⟨ha, hB⟩ := hB
      subst ha
      refine kk H1 locs1 ⟨hI.1.setW hi ?_ hk1 (fun q hq => ⟨if_neg hq, if_neg hq⟩) ⟨rfl, rfl⟩ (fun a ha => hI.1.2.2 j hj a ?_), hS⟩
      · rw [show cw (clu (cwu σ i (cw σ j)) i (cl σ j)) i = cw σ j from if_pos rfl, show cl (clu (cwu σ i (cw σ j)) i (cl σ j)) i = cl σ j from if_pos rfl, ← ht]
        exact hB
      · exact (show cl (clu (cwu σ i (cw σ j)) i (cl σ j)) i = cl σ j from if_pos rfl) ▸ ha
  · rw [if_neg hz] at hk
    cases hk
