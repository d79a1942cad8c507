set_option maxRecDepth 100000
set_option maxHeartbeats 4000000 in
theorem mJ6_init_2 : ∀ (l : Launch) (D : va_G) (J : Nat → ClassId) (z : Nat) (aK aV : Nat → Nat) (a q vq n cap N : Nat) (f : Nat → Int32), n ≤ cap → cap < 2 ^ 22 → (∀ j, fits .byte (.int (f j)) = true) → a < N → z ≤ a → a ≠ q → a ≠ vq →  Met l yJ6_init_2 (ws_ yJ6_init_2 cJ6_init_2 5 none) ({ frames := 5, cells := 1, slots := n, locals := 400 }) (va_Pc [.ref a, .ref q, .null] (fun U => (U.heap.size = N ∧ va_at D vwC (a, .inr (16, [.null, .int 0, .int 0, .int 0])) U.heap ∧ va_at D vwC (sbO q vq n) U.heap ∧ va_at D vwC (byO J vq cap f) U.heap) ∧ EB aK aV D J z U)) (va_Qv (fun (_ : Unit) => True) (fun _ t => ∃ va : Nat, N ≤ va ∧ va_at D vwC (a, .inr (16, [.ref va, .int 0, .int 0, .int 0])) t.heap ∧ va_at D vwC (byO J va n f) t.heap) (fun x => x = a ∨ N ≤ x)) 1 n (fun x => x = a ∨ N ≤ x) := by
  intro l D J z aK aV a q vq n cap N f hn hcap hfit haN hz haq hav
  refine Met.ofW (cc := cJ6_init_2) (maxL := 5) (ret := none) (by decide) rfl ?_
  intro p e s m args below meth c s₁ B hml hv
  obtain ⟨rfl, ⟨hN, ha, hq, hv⟩, hE⟩ := hv
  have hts := atoms_spec (ws := ws_ yJ6_init_2 cJ6_init_2 5 (none)) B.pre
  have hts : ∀ w ∈ lw_all, w.before _ s = true := fun w h => hts w (List.mem_cons_of_mem _ h)
  have hown : s.vm.findClass RJ6 = some m.cls := findClass_of_methodNamed B.named
  have hl := lv_entry [.ref a, .ref q, .null] (n := 5) (Nat.le_of_ble_eq_true rfl)
  rw [lg_entry_eq]
  generalize (lg_sl [.ref a, .ref q, .null] ++ List.replicate (5 - (lg_sl [.ref a, .ref q, .null]).length) Slot.unset).toArray = ls at hl ⊢
  have hl : lv_has ls 5 [(0, .ref a), (1, .ref q), (2, .null)] := hl
  have hx := B.exec
  have hb := B.bytes
  have hin : meth.name = "<init>" := (name_of_methodNamed B.named B.method).1
  refine lv_aload_n hx hb dJ6_init_2_0 rfl (lv_at hl 0 rfl) ?_
  refine W.objInit hx hb hown (hts _ q999) (hts _ q183) (hts _ q184) rfl (by rw [hml]; exact hl.1) rfl dJ6_init_2_1 (Nat.le_of_ble_eq_true rfl) (Nat.le_of_ble_eq_true rfl) ?_
  refine W.eq (g2 := F0 m 4 ls []) rfl ?_
  have hS : va_S (fun x => x = a ∨ N ≤ x) s.heap s.heap [] := va_S.rf
  refine lv_aload_n hx hb dJ6_init_2_4 rfl (lv_at hl 1 rfl) ?_
  refine va_callr (va_runU (As := []) (rest := []) ⟨hx, hb, hml, hown, hts⟩ (mJ4_getValue l D J z aK aV q vq n) (va_cwU 0 hts (lw_U q1000 q1002 q1003 q1001 q145 q1004) rfl rfl rfl rfl (by decide +kernel) ⟨Nat.le_of_ble_eq_true rfl, Nat.le_of_ble_eq_true rfl⟩) ⟨fun _ U g mk q => ⟨q.1, q.2.1, q.2.2.go (State.WarmedH.refl U) (fun _ _ _ => rfl)⟩, g_recv hE.1.1 hq rfl, fun U hU hW => ⟨rfl, by rw [hU]; exact hq, hE.go hW (fun _ _ _ => by rw [hU])⟩⟩ rfl rfl hl.1 rfl (lv_room (Nat.le_of_ble_eq_true rfl)) dJ6_init_2_5 ⟨by show (0 : Nat) ≤ 1; omega, by show 0 ≤ n; omega⟩) hS (fun _ _ h => h.elim) (fun _ h => h.elim) (fun u r t H locs ht hvm hp hB hz1 hk1 hS => ?_)
  obtain rfl : r = vq := hB
  replace ha := ha.kept (hk1 _ ha.lt id)
  replace hq := hq.kept (hk1 _ hq.lt id)
  replace hv := hv.kept (hk1 _ hv.lt id)
  clear hk1 hz1 ht hvm
  clear t
  refine lv_astore_n (lv' := [(3, .ref r), (0, .ref a), (1, .ref q), (2, .null)]) hx hb dJ6_init_2_8 rfl hl (by decide) rfl (fun ls hl => ?_)
  refine lv_aload_n hx hb dJ6_init_2_9 rfl (lv_at hl 2 rfl) ?_
  refine va_calli (va_runU (As := []) (rest := []) ⟨hx, hb, hml, hown, hts⟩ (mJ5_length l D J z aK aV q r n) (va_cwO 0 hts (lw_O q1005 q1007 q1006 q1008 q1009 q146 q1010) rfl rfl rfl q1012 (by decide +kernel) ⟨Nat.le_of_ble_eq_true rfl, Nat.le_of_ble_eq_true rfl⟩) ⟨fun _ U g mk q => ⟨q.1, q.2.1, q.2.2.go (State.WarmedH.refl U) (fun _ _ _ => rfl)⟩, g_recv hE.1.1 hq rfl, fun U hU hW => ⟨rfl, by rw [hU]; exact hq, hE.go hW (fun x h1 h2 => by rw [hU]; exact hS.2.1 x h1 (fun g => by rcases g with g | g <;> omega))⟩⟩ rfl rfl hl.1 rfl (lv_room (Nat.le_of_ble_eq_true rfl)) dJ6_init_2_10 ⟨by show (0 : Nat) ≤ 1; omega, by show 0 ≤ n; omega⟩) hS (fun _ _ h => h.elim) (fun _ h => h.elim) (fun r2 u t H locs ht hvm hp hB hz1 hk1 hS => ?_)
  obtain rfl : r2 = nI n := hp
  replace ha := ha.kept (hk1 _ ha.lt id)
  replace hq := hq.kept (hk1 _ hq.lt id)
  replace hv := hv.kept (hk1 _ hv.lt id)
  clear hk1 hz1 ht hvm
  clear t
  refine lv_istore (lv' := [(4, .int (nI n)), (3, .ref r), (0, .ref a), (1, .ref q), (2, .null)]) hx hb dJ6_init_2_13 hl (by decide) rfl (fun ls hl => ?_)
  refine lv_aload_n hx hb dJ6_init_2_15 rfl (lv_at hl 3 rfl) ?_
  refine va_calli (va_runU (As := []) (rest := []) ⟨hx, hb, hml, hown, hts⟩ (mJ4_isLatin1 l D J z aK aV q r n) (va_cwU 0 hts (lw_U q1013 q938 q939 q937 q145 q940) rfl rfl rfl rfl (by decide +kernel) ⟨Nat.le_of_ble_eq_true rfl, Nat.le_of_ble_eq_true rfl⟩) ⟨fun _ U g mk q => ⟨q.1, q.2.1, q.2.2.go (State.WarmedH.refl U) (fun _ _ _ => rfl)⟩, g_recv hE.1.1 hq rfl, fun U hU hW => ⟨rfl, by rw [hU]; exact hq, hE.go hW (fun x h1 h2 => by rw [hU]; exact hS.2.1 x h1 (fun g => by rcases g with g | g <;> omega))⟩⟩ rfl rfl hl.1 rfl (lv_room (Nat.le_of_ble_eq_true rfl)) dJ6_init_2_16 ⟨by show (0 : Nat) ≤ 1; omega, by show 0 ≤ n; omega⟩) hS (fun _ _ h => h.elim) (fun _ h => h.elim) (fun r3 u t H locs ht hvm hp hB hz1 hk1 hS => ?_)
  obtain rfl : r3 = 1 := hp
  replace ha := ha.kept (hk1 _ ha.lt id)
  replace hq := hq.kept (hk1 _ hq.lt id)
  replace hv := hv.kept (hk1 _ hv.lt id)
  clear hk1 hz1 ht hvm
  clear t
  refine lv_if_eq (tgt := 41) hx hb dJ6_init_2_19 (by decide) (fun hc => absurd hc (by decide)) (fun _ => ?_)
  refine lv_aload_n hx hb dJ6_init_2_22 rfl (lv_at hl 2 rfl) ?_
  refine lv_iconst (v := (0 : Int32)) hx hb dJ6_init_2_23 (by decide) ?_
  refine gputF hx hb hts in_J6 tyJ6 tyJ6_ok nmJ6 hown hE.1.1 ha rfl 1 (by decide) q1183 rfl hin rfl rfl rfl (Nat.le_of_ble_eq_true rfl) dJ6_init_2_24 (fun H locs h4 h5 h6 h7 => ?_)
  replace hS := va_S.one hS (Or.inl rfl) h5 h6 h7
  replace hq := hq.kept (h6 _ (Ne.symm haq))
  replace hv := hv.kept (h6 _ (Ne.symm hav))
  replace ha := h4
  clear h4 h5 h6 h7
  refine lv_aload_n hx hb dJ6_init_2_27 rfl (lv_at hl 2 rfl) ?_
  refine lv_aload_n hx hb dJ6_init_2_28 rfl (lv_at hl 1 rfl) ?_
  refine lv_iconst (v := (0 : Int32)) hx hb dJ6_init_2_29 (by decide) ?_
  refine lv_iload hx hb dJ6_init_2_30 (lv_at hl 0 rfl) ?_
  refine va_callr (va_runS (As := [.ref r, .int 0, .int (nI n)]) (rest := [.ref a]) ⟨hx, hb, hml, hown, hts⟩ (mJ0_copyOfRange l D J z aK aV r n cap _ f hn hcap hfit) (va_cwS 3 hts (lw_S q1014 q1015 q135 q1016) rfl rfl rfl (by decide +kernel) ⟨Nat.le_of_ble_eq_true rfl, Nat.le_of_ble_eq_true rfl⟩) ⟨fun _ U g mk q => ⟨q.1, q.2.1, q.2.2.go (State.WarmedH.refl U) (fun _ _ _ => rfl)⟩, fun U hU hW => ⟨rfl, by rw [hU]; exact ⟨rfl, hv⟩, hE.go hW (fun x h1 h2 => by rw [hU]; exact hS.2.1 x h1 (fun g => by rcases g with g | g <;> omega))⟩⟩ rfl rfl hl.1 rfl (lv_room (Nat.le_of_ble_eq_true rfl)) dJ6_init_2_32 ⟨Nat.le_refl _, by show 0 + n ≤ n; omega⟩) hS (fun x _ h => Or.inr (Nat.le_trans (by have := hS.1; omega) h)) (fun x h => Or.inr (Nat.le_trans (by have := hS.1; omega) h)) (fun u9 r9 t H1 locs ht hvm hp hB hz1 hk1 hS9 => ?_)
  obtain ⟨hr9, hB⟩ := hB
  rw [ht] at hB
  have hr9N : N ≤ r9 := Nat.le_trans (by have := hS.1; omega) hr9
  replace ha := ha.kept (hk1 _ ha.lt (by have := ha.lt; show ¬ _ ≤ a; omega))
  refine gputF hx hb hts in_J6 tyJ6 tyJ6_ok nmJ6 hown hE.1.1 ha rfl 0 (by decide) q1182 rfl hin rfl rfl rfl (Nat.le_of_ble_eq_true rfl) dJ6_init_2_35 (fun H2 locs2 h4 h5 h6 h7 => ?_)
  have hS2 := va_S.one hS9 (Or.inl rfl) h5 h6 h7
  have hB2 := hB.kept (h6 _ (by show r9 ≠ a; omega))
  refine lv_goto (tgt := 97) hx hb dJ6_init_2_38 (by decide) ?_
  exact W.widen (k := 1) (n := n) (Nat.le_refl _) (by show 0 + n ≤ n; omega) (W.vret hx hb B.returns (fun t ht hW => ⟨⟨(), rfl, trivial, by show ∃ va : Nat, _; rw [ht]; exact ⟨r9, hr9N, h4, hB2⟩⟩, hS2.F ht⟩) hS2.2.2 dJ6_init_2_97 B.notSynchronized)
set_option maxHeartbeats 4000000 in
theorem mJ6_init : ∀ (l : Launch) (D : va_G) (J : Nat → ClassId) (z : Nat) (aK aV : Nat → Nat) (a q vq n cap N : Nat) (f : Nat → Int32), n ≤ cap → cap < 2 ^ 22 → (∀ j, fits .byte (.int (f j)) = true) → a < N → z ≤ a → a ≠ q → a ≠ vq →  Met l yJ6_init (ws_ yJ6_init cJ6_init 2 none) ({ frames := 6, cells := 1, slots := n, locals := 500 }) (va_Pc [.ref a, .ref q] (fun U => (U.heap.size = N ∧ va_at D vwC (a, .inr (16, [.null, .int 0, .int 0, .int 0])) U.heap ∧ va_at D vwC (sbO q vq n) U.heap ∧ va_at D vwC (byO J vq cap f) U.heap) ∧ EB aK aV D J z U)) (va_Qv (fun (_ : Unit) => True) (fun _ t => ∃ va : Nat, N ≤ va ∧ va_at D vwC (a, .inr (16, [.ref va, .int 0, .int 0, .int 0])) t.heap ∧ va_at D vwC (byO J va n f) t.heap) (fun x => x = a ∨ N ≤ x)) 1 n (fun x => x = a ∨ N ≤ x) := by
  intro l D J z aK aV a q vq n cap N f hn hcap hfit haN hz haq hav
  refine Met.ofW (cc := cJ6_init) (maxL := 2) (ret := none) (by decide) rfl ?_
  intro p e s m args below meth c s₁ B hml hv
  obtain ⟨rfl, ⟨hN, ha, hq, hv⟩, hE⟩ := hv
  have hts := atoms_spec (ws := ws_ yJ6_init cJ6_init 2 (none)) B.pre
  have hts : ∀ w ∈ lw_all, w.before _ s = true := fun w h => hts w (List.mem_cons_of_mem _ h)
  have hown : s.vm.findClass RJ6 = some m.cls := findClass_of_methodNamed B.named
  have hl := lv_entry [.ref a, .ref q] (n := 2) (Nat.le_of_ble_eq_true rfl)
  rw [lg_entry_eq]
  generalize (lg_sl [.ref a, .ref q] ++ List.replicate (2 - (lg_sl [.ref a, .ref q]).length) Slot.unset).toArray = ls at hl ⊢
  have hl : lv_has ls 2 [(0, .ref a), (1, .ref q)] := hl
  have hx := B.exec
  have hb := B.bytes
  refine lv_aload_n hx hb dJ6_init_0 rfl (lv_at hl 0 rfl) ?_
  refine lv_aload_n hx hb dJ6_init_1 rfl (lv_at hl 1 rfl) ?_
  refine lv_null hx hb dJ6_init_2 ?_
  refine va_callv (va_runI (As := [.ref q, .null]) (rest := []) ⟨hx, hb, hml, hown, hts⟩ (mJ6_init_2 l D J z aK aV a q vq n cap N f hn hcap hfit haN hz haq hav) (cwI 2 hts (lw_meth q998) rfl rfl rfl (hts _ q147) (hts _ q996) (hts _ q997) rfl (by decide +kernel) ⟨Nat.le_of_ble_eq_true rfl, Nat.le_of_ble_eq_true rfl⟩) ⟨fun _ U g mk q => ⟨q.1, q.2.1, q.2.2.go (State.WarmedH.refl U) (fun _ _ _ => rfl)⟩, fun U hU hW => ⟨rfl, by rw [hU]; exact ⟨hN, ha, hq, hv⟩, hE.go hW (fun _ _ _ => by rw [hU])⟩⟩ rfl rfl hl.1 rfl (lv_room (Nat.le_of_ble_eq_true rfl)) dJ6_init_3 ⟨Nat.le_of_ble_eq_true rfl, by show 0 + n ≤ n; omega⟩) (va_S.rf (A := (fun x => x = a ∨ N ≤ x))) (fun _ _ h => h) (fun _ h => h) (fun u t H1 locs1 ht hvm hp hB hz1 hk1 hS => ?_)
  rw [ht] at hB
  exact W.widen (k := 1) (n := n) (Nat.le_refl _) (by show 0 + n ≤ n; omega) (W.vret hx hb B.returns (fun t ht hW => ⟨⟨(), rfl, trivial, by show ∃ va : Nat, _; rw [ht]; exact hB⟩, hS.F ht⟩) hS.2.2 dJ6_init_6 B.notSynchronized)
set_option maxHeartbeats 4000000 in
theorem mJ5_toString : ∀ (l : Launch) (D : va_G) (J : Nat → ClassId) (z : Nat) (aK aV : Nat → Nat) (q vq n cap N : Nat) (f : Nat → Int32), n ≤ cap → cap < 2 ^ 22 → (∀ j, fits .byte (.int (f j)) = true) → z ≤ q → q < N → vq < N →  Met l yJ5_toString (ws_ yJ5_toString cJ5_toString 1 (some (.object "java/lang/String"))) ({ frames := 7, cells := 2, slots := (4 + n), locals := 600 }) (va_Pc [.ref q] (fun U => (U.heap.size = N ∧ va_at D vwC (sbO q vq n) U.heap ∧ va_at D vwC (byO J vq cap f) U.heap) ∧ EB aK aV D J z U)) (va_Qr (fun (_ : Unit) => True) (fun _ x t => x = N ∧ ∃ va : Nat, N < va ∧ va_at D vwC (N, .inr (16, [.ref va, .int 0, .int 0, .int 0])) t.heap ∧ va_at D vwC (byO J va n f) t.heap) (fun x => N ≤ x)) 2 (4 + n) (fun x => N ≤ x) := by
  intro l D J z aK aV q vq n cap N f hn hcap hfit hz hqN hvN
  refine Met.ofW (cc := cJ5_toString) (maxL := 1) (ret := some (.object "java/lang/String")) (by decide) rfl ?_
  intro p e s m args below meth c s₁ B hml hv
  obtain ⟨rfl, ⟨hN, hq, hv⟩, hE⟩ := hv
  have hts := atoms_spec (ws := ws_ yJ5_toString cJ5_toString 1 (some (.object "java/lang/String"))) B.pre
  have hts : ∀ w ∈ lw_all, w.before _ s = true := fun w h => hts w (List.mem_cons_of_mem _ h)
  have hown : s.vm.findClass RJ5 = some m.cls := findClass_of_methodNamed B.named
  have hl := lv_entry [.ref q] (n := 1) (Nat.le_of_ble_eq_true rfl)
  rw [lg_entry_eq]
  generalize (lg_sl [.ref q] ++ List.replicate (1 - (lg_sl [.ref q]).length) Slot.unset).toArray = ls at hl ⊢
  have hl : lv_has ls 1 [(0, .ref q)] := hl
  have hx := B.exec
  have hb := B.bytes
  refine gnew (C := RJ6) (T := TJ6) (N := 4) (ci := 16) (fs := [.null, .int 0, .int 0, .int 0]) (h := N) hx hb hts in_J6 tyJ6 tyJ6_ok hown q991 q992 q147 hE.1.1 rfl (fun j hj => match j, hj with
    | 0, _ => rfl
    | 1, _ => rfl
    | 2, _ => rfl
    | 3, _ => rfl) hN (Nat.le_of_ble_eq_true rfl) (by show 0 + 4 ≤ 4 + n; omega) dJ5_toString_0 (fun H h1 h2 h3 => ?_)
  have hS : va_S (fun x => N ≤ x) s.heap H [] := ⟨by omega, fun q g1 g2 => h3 q (by omega), fun l hl => by cases hl⟩
  replace hq := hq.kept (h3 _ hqN)
  replace hv := hv.kept (h3 _ hvN)
  refine lv_dup hx hb dJ5_toString_3 rfl ?_
  refine lv_aload_n hx hb dJ5_toString_4 rfl (lv_at hl 0 rfl) ?_
  refine va_callv (va_runI (As := [.ref q]) (rest := [.ref N]) ⟨hx, hb, hml, hown, hts⟩ (mJ6_init l D J z aK aV N q vq n cap (N + 1) f hn hcap hfit (by omega) (by omega) (by omega) (by omega)) (cwI 1 hts (lw_meth q995) rfl rfl rfl (hts _ q147) (hts _ q993) (hts _ q994) rfl (by decide +kernel) ⟨Nat.le_of_ble_eq_true rfl, Nat.le_of_ble_eq_true rfl⟩) ⟨fun _ U g mk q => ⟨q.1, q.2.1, q.2.2.go (State.WarmedH.refl U) (fun _ _ _ => rfl)⟩, fun U hU hW => ⟨rfl, by rw [hU]; exact ⟨h2, h1, hq, hv⟩, hE.go hW (fun x g1 g2 => by rw [hU]; exact h3 x (by omega))⟩⟩ rfl rfl hl.1 rfl (lv_room (Nat.le_of_ble_eq_true rfl)) dJ5_toString_5 ⟨Nat.le_of_ble_eq_true rfl, by show 0 + 4 + n ≤ 4 + n; omega⟩) hS (fun x _ h => by rcases h with h | h; exact Nat.le_of_eq h.symm; exact Nat.le_of_succ_le h) (fun x h => by rcases h with h | h; exact Nat.le_of_eq h.symm; exact Nat.le_of_succ_le h) (fun u t H1 locs1 ht hvm hp hB hz1 hk1 hS => ?_)
  rw [ht] at hB
  exact W.widen (k := 2) (n := 4 + n) (Nat.le_refl _) (by show 0 + 4 + n ≤ 4 + n; omega) (W.aret hx hb B.returns (Or.inl ⟨_, rfl⟩) (Or.inr ⟨N, rfl⟩) (fun t ht hW => ⟨⟨(), N, rfl, trivial, rfl, by rw [ht]; exact hB⟩, hS.F ht⟩) hS.2.2 dJ5_toString_8 B.notSynchronized)
