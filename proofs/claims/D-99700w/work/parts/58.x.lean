set_option maxRecDepth 100000
set_option maxHeartbeats 4000000 in
theorem mX3_word (Λ : Nat → Nat → (Nat → Int32) → Int32) (Λn : Nat → Int32) (σ τ : Cs) (hf : X3_word σ = some τ) : ∀ (l : Launch) (D : va_G) (J : Nat → ClassId) (o z : Nat) (aK aV : Nat → Nat) (G Ld : Nat → Prop) (aF : Nat → Nat) (N : Nat), Met l yX3_word (ws_ yX3_word cX3_word 3 (some (.object "java/lang/String"))) ({ frames := 14, cells := wC τ, slots := wS τ, locals := 1500 }) (va_Pc [.ref (o + 61)] (fun U => (U.heap.size = N ∧ o + 110 < N ∧ PC D J o Ld σ U.heap) ∧ ECC D J o z aK aV G Ld aF Λ Λn U ∧ SbE U)) (va_Qr (fun (_ : Unit) => True) (fun _ x t => N ≤ x ∧ PC D J o Ld τ t.heap ∧ ∃ va : Nat, x < va ∧ va_at D vwC (x, .inr (16, [.ref va, .int 0, .int 0, .int 0])) t.heap ∧ va_at D vwC (byO J va (wlen τ) (wby τ)) t.heap) (fun q => rC o q ∨ N ≤ q)) (wC τ) (wS τ) (fun q => rC o q ∨ N ≤ q) := by
  intro l D J o z aK aV G Ld aF N
  refine Met.ofW (cc := cX3_word) (maxL := 3) (ret := some (.object "java/lang/String")) (by decide) rfl ?_
  intro p e s m args below meth c s₁ B hml hv
  obtain ⟨rfl, ⟨hN, hoN, hP⟩, hE, hSb⟩ := hv
  have hts := atoms_spec (ws := ws_ yX3_word cX3_word 3 (some (.object "java/lang/String"))) B.pre
  have hts : ∀ w ∈ lw_all, w.before _ s = true := fun w h => hts w (List.mem_cons_of_mem _ h)
  have hown : s.vm.findClass RX3 = some m.cls := findClass_of_methodNamed B.named
  have hl := lv_entry [.ref (o + 61)] (n := 3) (Nat.le_of_ble_eq_true rfl)
  rw [lg_entry_eq]
  generalize (lg_sl [.ref (o + 61)] ++ List.replicate (3 - (lg_sl [.ref (o + 61)]).length) Slot.unset).toArray = ls at hl ⊢
  have hl : lv_has ls 3 [(0, .ref (o + 61))] := hl
  have hx := B.exec
  have hb := B.bytes
  unfold X3_word at hf
  obtain ⟨t0, e0, hf⟩ := obd hf
  have hok : wOk t0 = true := by
    by_cases h : wOk t0 = true
    · exact h
    · rw [if_neg h] at hf; cases hf
  rw [if_pos hok] at hf
  obtain rfl : τ = t0 := (Option.some.inj hf).symm
  obtain ⟨k1, k2, k3, k4⟩ := wOk_e hok
  have hzo := hE.2.2.1
  have hEB : EB aK aV D J z s := ⟨hE.1, hSb⟩
  have envZ : ∀ (H : Heap) (locs : List Loc) (U : State), va_S (fun q => rC o q ∨ N ≤ q) s.heap H locs → U.heap = H → ∀ q : Nat, q < s.heap.size → ¬ z ≤ q → U.heap[q]? = s.heap[q]? := fun H locs U hS hU q h1 h2 => by
    rw [hU]
    refine hS.2.1 q h1 (fun g => ?_)
    rcases g with g | g
    · exact h2 (Nat.le_trans hzo g.1)
    · omega
  refine scan_W σ τ e0 hx hb hml hown hts hE (fun H locs ls hI hl => ?_) ⟨hP, va_S.rf⟩ hl
  obtain ⟨hP, hS⟩ := hI
  have hS : va_S (fun q => rC o q ∨ N ≤ q) s.heap H locs := ⟨hS.1, fun q h1 h2 => hS.2.1 q h1 (fun g => h2 (Or.inl g)), fun l hl => Or.inl (hS.2.2 l hl)⟩
  have hNH : N ≤ H.size := by have := hS.1; omega
  obtain ⟨a, ha0⟩ : ∃ a, a = H.size := ⟨_, rfl⟩
  refine gnew (C := RJ5) (T := TJ5) (N := 4) (ci := 15) (fs := [.null, .int 0, .int 0, .int 0]) (h := a) hx hb hts in_J5 tyJ5 tyJ5_ok hown q869 q870 q146 hE.1.1 rfl (fun j hj => match j, hj with
    | 0, _ => rfl
    | 1, _ => rfl
    | 2, _ => rfl
    | 3, _ => rfl) ha0.symm (by show 0 + 1 ≤ wC τ; unfold wC; omega) (by show 0 + 4 ≤ wS τ; unfold wS; omega) dX3_word_35 (fun H1 h1 h2 h3 => ?_)
  have hP1 := hP.kept (fun q h _ => h3 q (by omega))
  replace hS : va_S (fun q => rC o q ∨ N ≤ q) s.heap H1 locs := ⟨by have := hS.1; omega, fun q g1 g2 => (h3 q (by have := hS.1; omega)).trans (hS.2.1 q g1 g2), hS.2.2⟩
  clear hP h3
  refine lv_dup hx hb dX3_word_38 rfl ?_
  refine va_callv (va_runI (As := []) (rest := [.ref a]) ⟨hx, hb, hml, hown, hts⟩ (mJ5_init l D J z aK aV a (a + 1) (by omega) (by omega)) (cwI 0 hts (lw_meth q873) rfl rfl rfl (hts _ q146) (hts _ q871) (hts _ q872) rfl (by decide +kernel) ⟨Nat.le_of_ble_eq_true rfl, Nat.le_of_ble_eq_true rfl⟩) ⟨fun _ U g mk q => ⟨q.1, q.2.1, q.2.2.go (State.WarmedH.refl U) (fun _ _ _ => rfl)⟩, fun U hU hW => ⟨rfl, by rw [hU]; exact ⟨h2, h1⟩, hEB.go hW (envZ _ _ U hS hU)⟩⟩ rfl rfl hl.1 rfl (lv_room (Nat.le_of_ble_eq_true rfl)) dX3_word_39 ⟨by show 0 + 1 + 1 ≤ wC τ; unfold wC; omega, by show 0 + 4 + 16 ≤ wS τ; unfold wS; omega⟩) hS (fun x _ h => Or.inr (h.elim (fun h9 => by have h8 : x = a := h9; omega) (fun h9 => by have h8 : a + 1 ≤ x := h9; omega))) (fun (x : Nat) h => Or.inr (h.elim (fun h9 => by have h8 : x = a := h9; omega) (fun h9 => by have h8 : a + 1 ≤ x := h9; omega))) (fun u t H2 locs2 ht hvm hp hB hz1 hk1 hS => ?_)
  rw [ht] at hB
  have hP2 := hP1.kept (fun q h hr => hk1 q h (by have := hr.2.1; intro g; rcases g with g | g <;> omega))
  clear hvm ht hk1 hP1
  clear t
  refine lv_astore_n (lv' := [(1, .ref a), (0, .ref (o + 61))]) hx hb dX3_word_42 rfl hl (by decide) rfl (fun ls hl => ?_)
  refine lv_aload_n hx hb dX3_word_43 rfl (lv_at hl 1 rfl) ?_
  refine gget hx hb hts in_X3 hown hE.1.1 (hP2.o 1 rfl) rfl 4 (by decide) q332 rfl dX3_word_44 ?_
  rw [k1]
  refine lv_istore_n (lv' := [(2, .int (nI (wbg τ))), (1, .ref a), (0, .ref (o + 61))]) hx hb dX3_word_47 rfl hl (by decide) rfl (fun ls hl => ?_)
  have wcm : ∀ i j : Nat, wcc i ≤ wcc (i + j) ∧ wcs i ≤ wcs (i + j) := by
    intro i j
    induction j with
    | zero => exact ⟨Nat.le_refl _, Nat.le_refl _⟩
    | succ j ih => exact ⟨Nat.le_trans ih.1 (Nat.le_add_right _ _), Nat.le_trans ih.2 (Nat.le_add_right _ _)⟩
  have loop : ∀ (r k vq : Nat) (f : Nat → Int32) (H : Heap) (locs : List Loc) (ls : Array Slot) (hk : k + r = wlen τ) (hvq : a < vq) (hP : PC D J o Ld τ H) (hS : va_S (fun q => rC o q ∨ N ≤ q) s.heap H locs) (ha : va_at D vwC (sbO a vq k) H) (hv : va_at D vwC (byO J vq (wcap k) f) H) (hfit : ∀ j, fits .byte (.int (f j)) = true) (hfj : ∀ j, j < k → f j = wby τ j) (hl : lv_has ls 3 [(2, .int (nI (wbg τ + k))), (1, .ref a), (0, .ref (o + 61))]), W p l e ({ frames := 14, cells := wC τ, slots := wS τ, locals := 1500 } : Room) s m #[Value.ref (o + 61)] below meth c H locs (2 + wcc k) (20 + wcs k) (MQ below (va_Qr (fun (_ : Unit) => True) (fun _ x t => N ≤ x ∧ PC D J o Ld τ t.heap ∧ ∃ va : Nat, x < va ∧ va_at D vwC (x, .inr (16, [.ref va, .int 0, .int 0, .int 0])) t.heap ∧ va_at D vwC (byO J va (wlen τ) (wby τ)) t.heap) (fun q => rC o q ∨ N ≤ q)) #[Value.ref (o + 61)] s (wC τ) (wS τ) (fun q => rC o q ∨ N ≤ q)) (F0 m 48 ls []) := by
    intro r
    induction r with
    | zero =>
      intro k vq f H locs ls hk hvq hP hS ha hv hfit hfj hl
      have hcap := wcap_le k
      have hcg := wcap_ge k
      refine lv_iload_n hx hb dX3_word_48 rfl (lv_at hl 0 rfl) ?_
      refine lv_aload_n hx hb dX3_word_49 rfl (lv_at hl 2 rfl) ?_
      refine gget hx hb hts in_X3 hown hE.1.1 (hP.o 1 rfl) rfl 3 (by decide) q331 rfl dX3_word_50 ?_
      rw [k2]
      refine lv_icmp_ge (tgt := 74) hx hb dX3_word_53 (by decide) (fun _ => ?_) (fun hc => absurd (nI_le (show wbg τ + wlen τ ≤ wbg τ + k by omega) (by omega)) hc)
      refine lv_aload_n hx hb dX3_word_74 rfl (lv_at hl 1 rfl) ?_
      refine va_callr (va_runV (As := []) (rest := []) ⟨hx, hb, hml, hown, hts⟩ (mJ5_toString l D J z aK aV a vq k (wcap k) H.size f hcg.1 (by omega) hfit (by omega) ha.lt hv.lt) (cwV 0 hts (lw_V q987 q988 q989 q146 q990) rfl rfl rfl (by decide +kernel) ⟨Nat.le_of_ble_eq_true rfl, Nat.le_of_ble_eq_true rfl⟩) ⟨fun _ U g mk q => ⟨q.1, q.2.1, q.2.2.go (State.WarmedH.refl U) (fun _ _ _ => rfl)⟩, g_recv hE.1.1 ha rfl, fun U hU hW => ⟨rfl, by rw [hU]; exact ⟨rfl, ha, hv⟩, hEB.go hW (envZ _ _ U hS hU)⟩⟩ rfl rfl hl.1 rfl (lv_room (Nat.le_of_ble_eq_true rfl)) dX3_word_75 ⟨by show 2 + wcc k + 2 ≤ wC τ; unfold wC; rw [show wlen τ = k by omega]; omega, by show 20 + wcs k + (4 + k) ≤ wS τ; unfold wS; rw [show wlen τ = k by omega]; omega⟩) hS (fun x _ h => Or.inr (Nat.le_trans (by have := hS.1; omega) h)) (fun x h => Or.inr (Nat.le_trans (by have := hS.1; omega) h)) (fun u r9 t H2 locs2 ht hvm hp hB hz1 hk1 hS2 => ?_)
      obtain ⟨hr9, va, hva, hB1, hB2⟩ := hB
      rw [ht] at hB1 hB2
      subst hr9
      have hP2 := hP.kept (fun q h _ => hk1 q h (by show ¬ H.size ≤ q; omega))
      have hB3 : va_at D vwC (byO J va (wlen τ) (wby τ)) H2 := by
        rw [show wlen τ = k by omega]
        show H2[va]? = _
        rw [show H2[va]? = _ from hB2]
        congr 1
        exact cell_ext (fun j hj => hfj j hj)
      exact W.widen (k := wC τ) (n := wS τ) (by show 2 + wcc k + 2 ≤ wC τ; unfold wC; rw [show wlen τ = k by omega]; omega) (by show 20 + wcs k + (4 + k) ≤ wS τ; unfold wS; rw [show wlen τ = k by omega]; omega) (W.aret hx hb B.returns (Or.inl ⟨_, rfl⟩) (Or.inr ⟨_, rfl⟩) (fun t ht hW => ⟨⟨(), _, rfl, trivial, by
        have g9 : N ≤ H.size ∧ PC D J o Ld τ H2 ∧ ∃ va : Nat, H.size < va ∧ va_at D vwC (H.size, .inr (16, [.ref va, .int 0, .int 0, .int 0])) H2 ∧ va_at D vwC (byO J va (wlen τ) (wby τ)) H2 := ⟨by have := hS.1; omega, hP2, va, hva, hB1, hB3⟩
        rw [← ht] at g9
        exact g9⟩, hS2.F ht⟩) hS2.2.2 dX3_word_78 B.notSynchronized)
    | succ r ih =>
      intro k vq f H locs ls hk hvq hP hS ha hv hfit hfj hl
      have hcap := wcap_le k
      have hcg := wcap_ge k
      have hmc := wcm (k + 1) r
      rw [show k + 1 + r = wlen τ by omega] at hmc
      have hmc1 : wcc (k + 1) = wcc k + (if k = wcap k then 1 else 0) := rfl
      have hmc2 : wcs (k + 1) = wcs k + (if k = wcap k then 2 * wcap k + 2 else 0) := rfl
      have h4 := k4 k (by omega)
      have hch := chr_id h4.1 h4.2
      refine lv_iload_n hx hb dX3_word_48 rfl (lv_at hl 0 rfl) ?_
      refine lv_aload_n hx hb dX3_word_49 rfl (lv_at hl 2 rfl) ?_
      refine gget hx hb hts in_X3 hown hE.1.1 (hP.o 1 rfl) rfl 3 (by decide) q331 rfl dX3_word_50 ?_
      rw [k2]
      refine lv_icmp_ge (tgt := 74) hx hb dX3_word_53 (by decide) (fun hc => absurd hc (nI_ge (show wbg τ + k < wbg τ + wlen τ by omega) (by omega))) (fun _ => ?_)
      refine lv_aload_n hx hb dX3_word_56 rfl (lv_at hl 1 rfl) ?_
      refine lv_aload_n hx hb dX3_word_57 rfl (lv_at hl 2 rfl) ?_
      refine gget hx hb hts in_X3 hown hE.1.1 (hP.o 1 rfl) rfl 0 (by decide) q326 rfl dX3_word_58 ?_
      refine lv_iload_n hx hb dX3_word_61 rfl (lv_at hl 0 rfl) ?_
      refine gbld hx hb hE.1.1 2 (hP.o 2 rfl) rfl (ldN (show wbg τ + k < 400 by omega) (by omega)) dX3_word_62 ?_
      refine lv_i2c (v := wby τ k) hx hb dX3_word_63 hch.2 ?_
      refine va_callr (va_runV (As := [.int (wby τ k)]) (rest := []) ⟨hx, hb, hml, hown, hts⟩ (mJ5_append l D J z aK aV a vq k (wcap k) H.size (wby τ k) f hcg.1 (by omega) (by omega) (by omega) (by omega) ha.lt hfit (fun h => h4.2 (Int32.lt_trans (by decide) h))) (cwV 1 hts (lw_V q900 q901 q902 q146 q903) rfl rfl rfl (by decide +kernel) ⟨Nat.le_of_ble_eq_true rfl, Nat.le_of_ble_eq_true rfl⟩) ⟨fun _ U g mk q => ⟨q.1, q.2.1, q.2.2.go (State.WarmedH.refl U) (fun _ _ _ => rfl)⟩, g_recv hE.1.1 ha rfl, fun U hU hW => ⟨rfl, by rw [hU]; exact ⟨rfl, ha, hv⟩, hEB.go hW (envZ _ _ U hS hU)⟩⟩ rfl rfl hl.1 rfl (lv_room (Nat.le_of_ble_eq_true rfl)) dX3_word_64 ⟨by show 2 + wcc k + (if k = wcap k then 1 else 0) ≤ wC τ; unfold wC; omega, by show 20 + wcs k + (if k = wcap k then 2 * wcap k + 2 else 0) ≤ wS τ; unfold wS; omega⟩) hS (fun x _ h => Or.inr (by have h0 := hS.1; exact h.elim (fun h9 => by have h8 : x = a := h9; omega) (fun h7 => h7.elim (fun h9 => by have h8 : x = vq := h9; omega) (fun h9 => by have h8 : H.size ≤ x := h9; omega)))) (fun (x : Nat) h => Or.inr (by have h0 := hS.1; exact h.elim (fun h9 => by have h8 : x = a := h9; omega) (fun h7 => h7.elim (fun h9 => by have h8 : x = vq := h9; omega) (fun h9 => by have h8 : H.size ≤ x := h9; omega)))) (fun u r9 t H2 locs2 ht hvm hp hB hz1 hk1 hS2 => ?_)
      obtain ⟨hr9, v9, hv9, hB1, hB2⟩ := hB
      rw [ht] at hB1 hB2
      subst hr9
      have hP2 := hP.kept (fun q h hr => hk1 q h (by have := hr.2.1; intro g; have := hS.1; rcases g with g | g | g <;> omega))
      refine lv_pop hx hb dX3_word_67 rfl ?_
      refine lv_iinc (v := nI (wbg τ + (k + 1))) (lv' := [(2, .int (nI (wbg τ + (k + 1)))), (1, .ref r9), (0, .ref (o + 61))]) hx hb dX3_word_68 hl (k := 0) rfl (nI_1 (wbg τ + k)) (by decide) rfl (fun ls hl => ?_)
      refine lv_goto (tgt := 48) hx hb dX3_word_71 (by decide) ?_
      have hvq9 : r9 < v9 := by
        have h0 : r9 < H.size := ha.lt
        rcases hv9 with g | g
        · have g9 : v9 = vq := g
          omega
        · omega
      have key := ih (k + 1) v9 _ H2 locs2 ls (by omega) hvq9 hP2 hS2 hB1 hB2 (fun j => ?_) (fun j hj => ?_) hl
      · rw [hmc1, hmc2, ← Nat.add_assoc, ← Nat.add_assoc] at key
        exact key
      · rw [hch.1]
        unfold upd
        by_cases g : j = k
        · rw [if_pos g]
          rw [← hch.1]
          exact pk_fb _
        · rw [if_neg g]
          by_cases g2 : k = wcap k
          · rw [if_pos g2]
            unfold va_cpy
            by_cases g3 : 0 ≤ j ∧ j < 0 + wcap k
            · rw [if_pos g3]
              exact hfit _
            · rw [if_neg g3]
              rfl
          · rw [if_neg g2]
            exact hfit _
      · rw [hch.1]
        unfold upd
        by_cases g : j = k
        · rw [if_pos g, g]
        · rw [if_neg g]
          by_cases g2 : k = wcap k
          · rw [if_pos g2]
            unfold va_cpy
            rw [if_pos ⟨Nat.zero_le _, by omega⟩, Nat.zero_add, Nat.sub_zero]
            exact hfj j (by omega)
          · rw [if_neg g2]
            exact hfj j (by omega)
  exact loop (wlen τ) 0 (a + 1) (fun _ => 0) _ _ _ (Nat.zero_add _) (Nat.lt_succ_self a) hP2 hS hB.1 hB.2 (fun _ => rfl) (fun j hj => absurd hj (Nat.not_lt_zero j)) hl
