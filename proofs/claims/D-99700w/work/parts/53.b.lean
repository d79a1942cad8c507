set_option maxRecDepth 100000
set_option maxHeartbeats 4000000 in
theorem mJ4_ensureCapacityInternal : ∀ (l : Launch) (D : va_G) (J : Nat → ClassId) (z : Nat) (aK aV : Nat → Nat) (q vq k n cap N : Nat) (f : Nat → Int32), k ≤ cap → cap < 2 ^ 20 → z ≤ q → vq ≠ q → (∀ j, fits .byte (.int (f j)) = true) → Met l yJ4_ensureCapacityInternal (ws_ yJ4_ensureCapacityInternal cJ4_ensureCapacityInternal 3 none) ({ frames := 5, cells := (if k = cap then 1 else 0), slots := (if k = cap then 2 * cap + 2 else 0), locals := 500 }) (va_Pc [.ref q, .int (nI (k + 1))] (fun U => (U.heap.size = N ∧ va_at D vwC (sbO q vq n) U.heap ∧ va_at D vwC (byO J vq cap f) U.heap) ∧ EB aK aV D J z U)) (va_Qv (fun (_ : Unit) => True) (fun _ t => ∃ v9 : Nat, (v9 = vq ∨ N ≤ v9) ∧ va_at D vwC (sbO q v9 n) t.heap ∧ va_at D vwC (byO J v9 (if k = cap then 2 * cap + 2 else cap) (if k = cap then va_cpy f (fun _ => 0) 0 0 cap else f)) t.heap) (fun x => x = q ∨ N ≤ x)) (if k = cap then 1 else 0) (if k = cap then 2 * cap + 2 else 0) (fun x => x = q ∨ N ≤ x) := by
  intro l D J z aK aV q vq k n cap N f hk hcap hz hvq hfit
  refine Met.ofW (cc := cJ4_ensureCapacityInternal) (maxL := 3) (ret := none) (by decide) rfl ?_
  intro p e s m args below meth c s₁ B hml hv
  obtain ⟨rfl, ⟨hN, ha, hv⟩, hE⟩ := hv
  have hts := atoms_spec (ws := ws_ yJ4_ensureCapacityInternal cJ4_ensureCapacityInternal 3 (none)) B.pre
  have hts : ∀ w ∈ lw_all, w.before _ s = true := fun w h => hts w (List.mem_cons_of_mem _ h)
  have hown : s.vm.findClass RJ4 = some m.cls := findClass_of_methodNamed B.named
  have hl := lv_entry [.ref q, .int (nI (k + 1))] (n := 3) (Nat.le_of_ble_eq_true rfl)
  rw [lg_entry_eq]
  generalize (lg_sl [.ref q, .int (nI (k + 1))] ++ List.replicate (3 - (lg_sl [.ref q, .int (nI (k + 1))]).length) Slot.unset).toArray = ls at hl ⊢
  have hl : lv_has ls 3 [(0, .ref q), (1, .int (nI (k + 1)))] := hl
  have hx := B.exec
  have hb := B.bytes
  refine lv_aload_n hx hb dJ4_ensureCapacityInternal_0 rfl (lv_at hl 0 rfl) ?_
  refine gget hx hb hts in_J5 hown hE.1.1 ha rfl 0 (by decide) q887 rfl dJ4_ensureCapacityInternal_1 ?_
  refine va_alen (v := nI cap) hx hb hE.1.1 (va_P1 hv) 0 2 rfl rfl rfl dJ4_ensureCapacityInternal_4 ?_
  refine lv_aload_n hx hb dJ4_ensureCapacityInternal_5 rfl (lv_at hl 0 rfl) ?_
  refine gget hx hb hts in_J5 hown hE.1.1 ha rfl 1 (by decide) q888 rfl dJ4_ensureCapacityInternal_6 ?_
  refine lv_ishr hx hb dJ4_ensureCapacityInternal_9 ?_
  rw [sb_shr0]
  refine lv_istore_n (lv' := [(2, .int (nI cap)), (0, .ref q), (1, .int (nI (k + 1)))]) hx hb dJ4_ensureCapacityInternal_10 rfl hl (by decide) rfl (fun ls hl => ?_)
  refine lv_iload_n hx hb dJ4_ensureCapacityInternal_11 rfl (lv_at hl 2 rfl) ?_
  refine lv_iload_n hx hb dJ4_ensureCapacityInternal_12 rfl (lv_at hl 0 rfl) ?_
  refine lv_isub hx hb dJ4_ensureCapacityInternal_13 ?_
  by_cases c0 : k = cap
  · subst c0
    simp only [if_true]
    rw [show nI (k + 1) - nI k = 1 from by rw [pk_sub (by omega), show k + 1 - k = 1 by omega]; rfl]
    refine lv_if_le (tgt := 38) hx hb dJ4_ensureCapacityInternal_14 (by decide) (fun hc => absurd hc (by decide)) (fun _ => ?_)
    refine lv_aload_n hx hb dJ4_ensureCapacityInternal_17 rfl (lv_at hl 1 rfl) ?_
    refine lv_aload_n hx hb dJ4_ensureCapacityInternal_18 rfl (lv_at hl 1 rfl) ?_
    refine gget hx hb hts in_J5 hown hE.1.1 ha rfl 0 (by decide) q887 rfl dJ4_ensureCapacityInternal_19 ?_
    refine lv_aload_n hx hb dJ4_ensureCapacityInternal_22 rfl (lv_at hl 1 rfl) ?_
    refine lv_iload_n hx hb dJ4_ensureCapacityInternal_23 rfl (lv_at hl 2 rfl) ?_
    refine va_calli (va_runV (As := [.int (nI (k + 1))]) (rest := [.ref vq, .ref q]) ⟨hx, hb, hml, hown, hts⟩ (mJ4_newCapacity l D J z aK aV q vq n k f hcap) (cwSB 1 hts q914 rfl rfl q145 q911 q913 (sbSel (x := yJ4_isLatin1) (by decide) rfl hE.2.2.1 (hts _ q913) (hts _ q939)) (by decide +kernel) ⟨Nat.le_of_ble_eq_true rfl, Nat.le_of_ble_eq_true rfl⟩) ⟨fun _ U g mk q => ⟨q.1, q.2.1, q.2.2.go (State.WarmedH.refl U) (fun _ _ _ => rfl)⟩, g_recv hE.1.1 ha rfl, fun U hU hW => ⟨rfl, by rw [hU]; exact ⟨ha, hv⟩, hE.go hW (fun _ _ _ => by rw [hU])⟩⟩ rfl rfl hl.1 rfl (lv_room (Nat.le_of_ble_eq_true rfl)) dJ4_ensureCapacityInternal_24 ⟨Nat.zero_le _, Nat.zero_le _⟩) (va_S.rf (A := (fun x => x = q ∨ N ≤ x))) (fun _ _ h => h.elim) (fun _ h => h.elim) (fun r u t H1 locs1 ht hvm hp hB hz1 hk1 hS => ?_)
    obtain rfl : r = nI (2 * k + 2) := hp
    have hk0 : ∀ q : Nat, q < s.heap.size → H1[q]? = s.heap[q]? := fun q h => hk1 q h id
    replace ha := ha.kept (hk0 _ ha.lt)
    replace hv := hv.kept (hk0 _ hv.lt)
    clear hB hvm ht hk1
    clear t
    have hsz : s.heap.size ≤ H1.size := hz1
    have hql : q < H1.size := ha.lt
    refine lv_aload_n hx hb dJ4_ensureCapacityInternal_27 rfl (lv_at hl 1 rfl) ?_
    refine gget hx hb hts in_J5 hown hE.1.1 ha rfl 1 (by decide) q888 rfl dJ4_ensureCapacityInternal_28 ?_
    refine lv_ishl hx hb dJ4_ensureCapacityInternal_31 ?_
    rw [sb_shl0]
    refine va_callr (va_runS (As := [.ref vq, .int (nI (2 * k + 2))]) (rest := [.ref q]) ⟨hx, hb, hml, hown, hts⟩ (mJ0_copyOf l D J z aK aV vq k (2 * k + 2) H1.size f (by omega) (by omega) hfit) (va_cwS 2 hts (lw_S q924 q925 q135 q926) rfl rfl rfl (by decide +kernel) ⟨Nat.le_of_ble_eq_true rfl, Nat.le_of_ble_eq_true rfl⟩) ⟨fun _ U g mk q => ⟨q.1, q.2.1, q.2.2.go (State.WarmedH.refl U) (fun _ _ _ => rfl)⟩, fun U hU hW => ⟨rfl, by rw [hU]; exact ⟨rfl, hv⟩, hE.go hW (fun q h1 _ => by rw [hU]; exact hk0 q h1)⟩⟩ rfl rfl hl.1 rfl (lv_room (Nat.le_of_ble_eq_true rfl)) dJ4_ensureCapacityInternal_32 ⟨Nat.le_refl _, by show 0 + (2 * k + 2) ≤ 2 * k + 2; omega⟩) hS (fun x _ h => Or.inr (by have h9 : H1.size ≤ x := h; omega)) (fun x h => Or.inr (by have h9 : H1.size ≤ x := h; omega)) (fun u9 r t H2 locs2 ht hvm hp hB hz2 hk2 hS => ?_)
    obtain ⟨hr, hB⟩ := hB
    rw [ht] at hB
    replace ha := ha.kept (hk2 _ ha.lt (fun g => by have := ha.lt; omega))
    clear hvm ht hk2 hv
    clear t
    rw [← hr] at hB
    refine gput hx hb hts in_J5 tyJ5 tyJ5_ok nmJ5 hown hE.1.1 ha rfl 0 (by decide) q887 rfl rfl rfl (Nat.le_of_ble_eq_true rfl) dJ4_ensureCapacityInternal_35 (fun H3 locs3 h4 h5 h6 h7 => ?_)
    have hS := va_S.one hS (Or.inl rfl) h5 h6 h7
    have hB3 := hB.kept (h6 _ (by show r ≠ q; omega))
    exact W.widen (k := 1) (n := 2 * k + 2) (Nat.le_refl _) (by show 0 + (2 * k + 2) ≤ 2 * k + 2; omega) (W.vret hx hb B.returns (fun t ht hW => ⟨⟨(), rfl, trivial, by show ∃ v9 : Nat, _; rw [ht]; exact ⟨r, Or.inr (by omega), h4, hB3⟩⟩, hS.F ht⟩) hS.2.2 dJ4_ensureCapacityInternal_38 B.notSynchronized)
  simp only [if_neg c0]
  refine lv_if_le (tgt := 38) hx hb dJ4_ensureCapacityInternal_14 (by decide) (fun _ => ?_) (fun hc => absurd (by rw [Int32.le_iff_toInt_le, pk_sub_toInt (by omega) (by omega), Int32.toInt_zero]; omega) hc)
  exact W.vret hx hb B.returns (fun t ht hW => ⟨⟨(), rfl, trivial, by show ∃ v9 : Nat, _; rw [ht]; exact ⟨vq, Or.inl rfl, ha, hv⟩⟩, (va_S.rf (A := (fun x => x = q ∨ N ≤ x)) (H0 := s.heap)).F ht⟩) (fun _ h => nomatch h) dJ4_ensureCapacityInternal_38 B.notSynchronized
theorem stof_nI {n k : Nat} {f : Nat → Int32} {x : Int32} (h : k < n) (hn : n < 2 ^ 31) : stof n f (nI k) x = some (upd f k x) := by
  rw [stofN h hn]
set_option maxHeartbeats 4000000 in
theorem mJ4_append : ∀ (l : Launch) (D : va_G) (J : Nat → ClassId) (z : Nat) (aK aV : Nat → Nat) (q vq k cap N : Nat) (c9 : Int32) (f : Nat → Int32), k ≤ cap → cap < 2 ^ 20 → z ≤ q → z ≤ vq → vq ≠ q → q < N → (∀ j, fits .byte (.int (f j)) = true) → ¬ (255 : Int32) < c9 → Met l yJ4_append (ws_ yJ4_append cJ4_append 2 (some (.object "java/lang/AbstractStringBuilder"))) ({ frames := 6, cells := (if k = cap then 1 else 0), slots := (if k = cap then 2 * cap + 2 else 0), locals := 700 }) (va_Pc [.ref q, .int c9] (fun U => (U.heap.size = N ∧ va_at D vwC (sbO q vq k) U.heap ∧ va_at D vwC (byO J vq cap f) U.heap) ∧ EB aK aV D J z U)) (va_Qr (fun (_ : Unit) => True) (fun _ x t => x = q ∧ ∃ v9 : Nat, (v9 = vq ∨ N ≤ v9) ∧ va_at D vwC (sbO q v9 (k + 1)) t.heap ∧ va_at D vwC (byO J v9 (if k = cap then 2 * cap + 2 else cap) (upd (if k = cap then va_cpy f (fun _ => 0) 0 0 cap else f) k c9.toInt8.toInt32)) t.heap) (fun x => x = q ∨ x = vq ∨ N ≤ x)) (if k = cap then 1 else 0) (if k = cap then 2 * cap + 2 else 0) (fun x => x = q ∨ x = vq ∨ N ≤ x) := by
  intro l D J z aK aV q vq k cap N c9 f hk hcap hz hzv hvq hqN hfit hc9
  refine Met.ofW (cc := cJ4_append) (maxL := 2) (ret := some (.object "java/lang/AbstractStringBuilder")) (by decide) rfl ?_
  intro p e s m args below meth c s₁ B hml hv
  obtain ⟨rfl, ⟨hN, ha, hv⟩, hE⟩ := hv
  have hts := atoms_spec (ws := ws_ yJ4_append cJ4_append 2 (some (.object "java/lang/AbstractStringBuilder"))) B.pre
  have hts : ∀ w ∈ lw_all, w.before _ s = true := fun w h => hts w (List.mem_cons_of_mem _ h)
  have hown : s.vm.findClass RJ4 = some m.cls := findClass_of_methodNamed B.named
  have hl := lv_entry [.ref q, .int c9] (n := 2) (Nat.le_of_ble_eq_true rfl)
  rw [lg_entry_eq]
  generalize (lg_sl [.ref q, .int c9] ++ List.replicate (2 - (lg_sl [.ref q, .int c9]).length) Slot.unset).toArray = ls at hl ⊢
  have hl : lv_has ls 2 [(0, .ref q), (1, .int c9)] := hl
  have hx := B.exec
  have hb := B.bytes
  refine lv_aload_n hx hb dJ4_append_0 rfl (lv_at hl 0 rfl) ?_
  refine lv_aload_n hx hb dJ4_append_1 rfl (lv_at hl 0 rfl) ?_
  refine gget hx hb hts in_J5 hown hE.1.1 ha rfl 3 (by decide) q890 rfl dJ4_append_2 ?_
  refine lv_iconst (v := (1 : Int32)) hx hb dJ4_append_5 (by decide) ?_
  refine lv_iadd hx hb dJ4_append_6 ?_
  rw [nI_1]
  refine va_callv (va_runV (As := [.int (nI (k + 1))]) (rest := []) ⟨hx, hb, hml, hown, hts⟩ (mJ4_ensureCapacityInternal l D J z aK aV q vq k k cap N f hk hcap hz hvq hfit) (cwSB 1 hts q910 rfl rfl q145 q907 q909 (sbSel (x := yJ4_isLatin1) (by decide) rfl hE.2.1 (hts _ q909) (hts _ q939)) (by decide +kernel) ⟨Nat.le_of_ble_eq_true rfl, Nat.le_of_ble_eq_true rfl⟩) ⟨fun _ U g mk q => ⟨q.1, q.2.1, q.2.2.go (State.WarmedH.refl U) (fun _ _ _ => rfl)⟩, g_recv hE.1.1 ha rfl, fun U hU hW => ⟨rfl, by rw [hU]; exact ⟨hN, ha, hv⟩, hE.go hW (fun _ _ _ => by rw [hU])⟩⟩ rfl rfl hl.1 rfl (lv_room (Nat.le_of_ble_eq_true rfl)) dJ4_append_7 ⟨by rw [Nat.zero_add]; exact Nat.le_refl _, by rw [Nat.zero_add]; exact Nat.le_refl _⟩) (va_S.rf (A := (fun x => x = q ∨ x = vq ∨ N ≤ x))) (fun x _ h => h.imp id Or.inr) (fun x h => h.imp id Or.inr) (fun u t H1 locs1 ht hvm hp hB hz1 hk1 hS => ?_)
  obtain ⟨v9, hv9, ha, hv⟩ := hB
  rw [ht] at ha hv
  have hzv9 : z ≤ v9 := by
    rcases hv9 with g | g
    · rw [g]; exact hzv
    · omega
  have hvq9 : v9 ≠ q := by
    rcases hv9 with g | g
    · rw [g]; exact hvq
    · omega
  have hA9 : v9 = q ∨ v9 = vq ∨ N ≤ v9 := Or.inr hv9
  clear hvm ht hk1
  clear t
  obtain ⟨cap9, hcap9⟩ : ∃ c, c = (if k = cap then 2 * cap + 2 else cap) := ⟨_, rfl⟩
  obtain ⟨f9, hf9⟩ : ∃ c, c = (if k = cap then va_cpy f (fun _ => 0) 0 0 cap else f) := ⟨_, rfl⟩
  rw [← hcap9, ← hf9] at hv ⊢
  have hkc9 : k < cap9 ∧ cap9 < 2 ^ 22 := by
    rw [hcap9]
    split <;> omega
  refine lv_aload_n hx hb dJ4_append_10 rfl (lv_at hl 0 rfl) ?_
  refine va_calli (va_runU (As := []) (rest := []) ⟨hx, hb, hml, hown, hts⟩ (mJ4_isLatin1 l D J z aK aV q v9 k) (va_cwU 0 hts (lw_U q936 q938 q939 q937 q145 q940) rfl rfl rfl rfl (by decide +kernel) ⟨Nat.le_of_ble_eq_true rfl, Nat.le_of_ble_eq_true rfl⟩) ⟨fun _ U g mk q => ⟨q.1, q.2.1, q.2.2.go (State.WarmedH.refl U) (fun _ _ _ => rfl)⟩, g_recv hE.1.1 ha rfl, fun U hU hW => ⟨rfl, by rw [hU]; exact ha, hE.go hW (fun x h1 h2 => by rw [hU]; exact hS.2.1 x h1 (fun g => by rcases g with g | g | g <;> omega))⟩⟩ rfl rfl hl.1 rfl (lv_room (Nat.le_of_ble_eq_true rfl)) dJ4_append_11 ⟨by show 0 + (if k = cap then 1 else 0) + 0 ≤ (if k = cap then 1 else 0); omega, by show 0 + (if k = cap then 2 * cap + 2 else 0) + 0 ≤ (if k = cap then 2 * cap + 2 else 0); omega⟩) hS (fun _ _ h => h.elim) (fun _ h => h.elim) (fun r u t H2 locs2 ht hvm hp hB hz2 hk2 hS => ?_)
  obtain rfl : r = 1 := hp
  replace ha := ha.kept (hk2 _ ha.lt id)
  replace hv := hv.kept (hk2 _ hv.lt id)
  clear hk2 hB hz2 ht hvm
  clear t
  refine lv_if_eq (tgt := 45) hx hb dJ4_append_14 (by decide) (fun hc => absurd hc (by decide)) (fun _ => ?_)
  refine lv_iload_n hx hb dJ4_append_17 rfl (lv_at hl 1 rfl) ?_
  refine tcallS (rest := []) hx hb hts hown hml hl.1 (mJ10_canEncode c9 hc9) (va_cwS 1 hts (lw_S q941 q942 q151 q943) rfl rfl rfl (by decide +kernel) ⟨Nat.le_of_ble_eq_true rfl, Nat.le_of_ble_eq_true rfl⟩) ⟨by show 0 + (if k = cap then 1 else 0) + 0 ≤ (if k = cap then 1 else 0); omega, by show 0 + (if k = cap then 2 * cap + 2 else 0) + 0 ≤ (if k = cap then 2 * cap + 2 else 0); omega⟩ rfl rfl (lv_room (Nat.le_of_ble_eq_true rfl)) dJ4_append_18 ?_
  refine lv_if_eq (tgt := 45) hx hb dJ4_append_21 (by decide) (fun hc => absurd hc (by decide)) (fun _ => ?_)
  refine lv_aload_n hx hb dJ4_append_24 rfl (lv_at hl 0 rfl) ?_
  refine gget hx hb hts in_J5 hown hE.1.1 ha rfl 0 (by decide) q887 rfl dJ4_append_25 ?_
  refine lv_aload_n hx hb dJ4_append_28 rfl (lv_at hl 0 rfl) ?_
  refine lv_dup hx hb dJ4_append_29 rfl ?_
  refine gget hx hb hts in_J5 hown hE.1.1 ha rfl 3 (by decide) q890 rfl dJ4_append_30 ?_
  refine lv_dup_x1 hx hb dJ4_append_33 rfl rfl ?_
  refine lv_iconst (v := (1 : Int32)) hx hb dJ4_append_34 (by decide) ?_
  refine lv_iadd hx hb dJ4_append_35 ?_
  rw [nI_1]
  refine gput hx hb hts in_J5 tyJ5 tyJ5_ok nmJ5 hown hE.1.1 ha rfl 3 (by decide) q890 rfl rfl rfl (Nat.le_of_ble_eq_true rfl) dJ4_append_36 (fun H3 locs3 h4 h5 h6 h7 => ?_)
  have hS := va_S.one hS (Or.inl rfl) h5 h6 h7
  replace hv := hv.kept (h6 _ hvq9)
  clear h5 h6 h7 ha
  have ha : va_at D vwC (sbO q v9 (k + 1)) H3 := h4
  clear h4
  refine lv_iload_n hx hb dJ4_append_39 rfl (lv_at hl 1 rfl) ?_
  refine lv_i2b (v := c9.toInt8.toInt32) hx hb dJ4_append_40 rfl ?_
  refine gbst hx hb hE.1.1 2 hv rfl (pk_nb _) (g := upd f9 k c9.toInt8.toInt32) (stof_nI hkc9.1 (by omega)) dJ4_append_41 (fun H4 locs4 h4 h5 h6 h7 => ?_)
  have hS := va_S.one hS hA9 h5 h6 h7
  replace ha := ha.kept (h6 _ (Ne.symm hvq9))
  refine lv_goto (tgt := 75) hx hb dJ4_append_42 (by decide) ?_
  refine lv_aload_n hx hb dJ4_append_75 rfl (lv_at hl 0 rfl) ?_
  exact W.widen (k := (if k = cap then 1 else 0)) (n := (if k = cap then 2 * cap + 2 else 0)) (by omega) (by omega) (W.aret hx hb B.returns (Or.inl ⟨_, rfl⟩) (Or.inr ⟨q, rfl⟩) (fun t ht hW => ⟨⟨(), q, rfl, trivial, rfl, by rw [ht]; exact ⟨v9, hv9, ha, h4⟩⟩, hS.F ht⟩) hS.2.2 dJ4_append_76 B.notSynchronized)
