set_option maxRecDepth 100000
def weqR (τ : Cs) (j : Nat) : Int32 := beq8 (lenS.getD j 0) (wlen τ) (sBy j) (wby τ)
/-- the first constant, from i on, k of them, whose word it is -/
def efnd (js : Nat → Nat) (τ : Cs) : Nat → Nat → Option Nat
  | 0, _ => none
  | k + 1, i => if weqR τ (js i) = 0 then efnd js τ k (i + 1) else some i
def EnT (C : String) (b n : Nat) (js : Nat → Nat) (aK aF : Nat → Nat) (z : Nat) (U : State) : Prop := ∀ i, i < n → js i < nS ∧ va_OF C "told" "Ljava/lang/String;" (.ref (aK (js i))) (aF (b + i)) (zZ z) U U.heap
theorem EnT.go {C : String} {b n : Nat} {js : Nat → Nat} {aK aF : Nat → Nat} {z : Nat} {s U : State} (h : EnT C b n js aK aF z s) (hW : s.WarmedH U.vm) (hq : ∀ q : Nat, q < s.heap.size → ¬ z ≤ q → U.heap[q]? = s.heap[q]?) : EnT C b n js aK aF z U := fun i hi => ⟨(h i hi).1, va_OF.moved hW.alike ((h i hi).2.kept hq)⟩
set_option maxHeartbeats 4000000 in
theorem mX10_of : ∀ (l : Launch) (D9 D : va_G) (J : Nat → ClassId) (cK : ClassId) (kv z N N9 x va : Nat) (h0 z0 : Int32) (aK aV aF js : Nat → Nat) (τ : Cs), z ≤ N9 → z ≤ N → Met l yX10_of (ws_ yX10_of cX10_of 5 (some (.object "LateInks$Kind"))) ({ frames := 4, cells := 1, slots := 3, locals := 300 }) (va_Pc [.ref x] (fun U => (U.heap.size = N ∧ StrF D J N9 x va h0 z0 τ U.heap) ∧ EC D J z aK aV U ∧ EnA D9 "LateInks$Kind" "[LLateInks$Kind;" cK kv 3 7 aF z U ∧ EnT "LateInks$Kind" 7 3 js aK aF z U)) (va_Qq (fun (r : Option Nat) (_ : Unit) => r = (efnd js τ 3 0).map (fun i => aF (7 + i))) (fun _ _ => True) (fun q => N ≤ q)) 1 3 (fun q => N ≤ q) := by
  intro l D9 D J cK kv z N N9 x va h0 z0 aK aV aF js τ hz9 hzN
  refine Met.ofW (cc := cX10_of) (maxL := 5) (ret := some (.object "LateInks$Kind")) (by decide) rfl ?_
  intro p e s m args below meth c s₁ B hml hv
  obtain ⟨rfl, ⟨hN, hs⟩, hE, hA, hT⟩ := hv
  have hts := atoms_spec (ws := ws_ yX10_of cX10_of 5 (some (.object "LateInks$Kind"))) B.pre
  have hts : ∀ w ∈ lw_all, w.before _ s = true := fun w h => hts w (List.mem_cons_of_mem _ h)
  have hown : s.vm.findClass RX10 = some m.cls := findClass_of_methodNamed B.named
  have hl := lv_entry [.ref x] (n := 5) (Nat.le_of_ble_eq_true rfl)
  rw [lg_entry_eq]
  generalize (lg_sl [.ref x] ++ List.replicate (5 - (lg_sl [.ref x]).length) Slot.unset).toArray = ls at hl ⊢
  have hl : lv_has ls 5 [(0, .ref x)] := hl
  have hx := B.exec
  have hb := B.bytes
  refine va_callr (va_runS (As := []) (rest := []) ⟨hx, hb, hml, hown, hts⟩ (mX10_values l D9 cK kv z N aF) (va_cwS 0 hts (lw_S q1424 q1425 q163 q1426) rfl rfl rfl (by decide +kernel) ⟨Nat.le_of_ble_eq_true rfl, Nat.le_of_ble_eq_true rfl⟩) ⟨fun _ U g mk q => ⟨q.1, q.2.1, q.2.2.go (State.WarmedH.refl U) (fun _ _ _ => rfl)⟩, fun U hU hW => ⟨rfl, by rw [hU]; exact hN, hA.go hW (fun _ _ _ => by rw [hU])⟩⟩ rfl rfl hl.1 rfl (lv_room (Nat.le_of_ble_eq_true rfl)) dX10_of_0 ⟨Nat.le_of_ble_eq_true rfl, Nat.le_of_ble_eq_true rfl⟩) (va_S.rf (A := (fun q => N ≤ q))) (fun _ _ h => h) (fun _ h => h) (fun u q t H locs ht hvm hp hB hz1 hk1 hS => ?_)
  obtain ⟨hNq, h9⟩ := hB
  rw [ht] at h9
  replace h9 : va_at D9 [] (q, .inl (cK, (3, .inr (.inr (.inr (.inr (enF 3 7 aF))))))) H := h9
  have hs : StrF D J N9 x va h0 z0 τ H := ⟨hs.1, hs.2.1, hs.2.2.1.kept (hk1 _ hs.2.2.1.lt (by have h8 : x < s.heap.size := hs.2.2.1.lt; show ¬ N ≤ x; omega)), hs.2.2.2.1.kept (hk1 _ hs.2.2.2.1.lt (by have h8 : va < s.heap.size := hs.2.2.2.1.lt; show ¬ N ≤ va; omega)), hs.2.2.2.2⟩
  clear ht hvm hk1 hz1
  clear t
  refine lv_astore_n (lv' := [(1, .ref q), (0, .ref x)]) hx hb dX10_of_3 rfl hl (by decide) rfl (fun ls hl => ?_)
  refine lv_aload_n hx hb dX10_of_4 rfl (lv_at hl 0 rfl) ?_
  refine va_alen (v := nI 3) hx hb hA.2.2.2.1 (va_P1 h9) 0 0 rfl rfl rfl dX10_of_5 ?_
  refine lv_istore_n (lv' := [(2, .int (nI 3)), (1, .ref q), (0, .ref x)]) hx hb dX10_of_6 rfl hl (by decide) rfl (fun ls hl => ?_)
  refine lv_iconst (v := (0 : Int32)) hx hb dX10_of_7 (by decide) ?_
  refine lv_istore_n (lv' := [(3, .int (0 : Int32)), (2, .int (nI 3)), (1, .ref q), (0, .ref x)]) hx hb dX10_of_8 rfl hl (by decide) rfl (fun ls hl => ?_)
  have loop : ∀ (k i : Nat) (H : Heap) (locs : List Loc) (ls : Array Slot), i + k = 3 → efnd js τ k i = efnd js τ 3 0 → va_at D9 [] (q, .inl (cK, (3, .inr (.inr (.inr (.inr (enF 3 7 aF))))))) H → StrF D J N9 x va h0 z0 τ H → va_S (fun q => N ≤ q) s.heap H locs → lv_has ls 5 [(3, .int (nI i)), (2, .int (nI 3)), (1, .ref q), (0, .ref x)] → W p l e ({ frames := 4, cells := 1, slots := 3, locals := 300 } : Room) s m #[Value.ref x] below meth c H locs 1 3 (MQ below (va_Qq (fun (r : Option Nat) (_ : Unit) => r = (efnd js τ 3 0).map (fun i => aF (7 + i))) (fun _ _ => True) (fun q => N ≤ q)) #[Value.ref x] s 1 3 (fun q => N ≤ q)) (F0 m 9 ls []) := by
    intro k
    induction k with
    | zero =>
      intro i H locs ls hik hef h9 hs hS hl
      refine lv_iload_n hx hb dX10_of_9 rfl (lv_at hl 0 rfl) ?_
      refine lv_iload_n hx hb dX10_of_10 rfl (lv_at hl 1 rfl) ?_
      refine lv_icmp_ge (tgt := 40) hx hb dX10_of_11 (by decide) (fun _ => ?_) (fun hc => absurd (nI_le (show 3 ≤ i by omega) (by omega)) hc)
      refine lv_null hx hb dX10_of_40 ?_
      exact W.aret hx hb B.returns (Or.inl ⟨_, rfl⟩) (Or.inl rfl) (fun t ht hW => ⟨⟨none, (), rfl, by rw [← hef]; rfl, trivial⟩, hS.F ht⟩) hS.2.2 dX10_of_41 B.notSynchronized
    | succ k ih =>
      intro i H locs ls hik hef h9 hs hS hl
      refine lv_iload_n hx hb dX10_of_9 rfl (lv_at hl 0 rfl) ?_
      refine lv_iload_n hx hb dX10_of_10 rfl (lv_at hl 1 rfl) ?_
      refine lv_icmp_ge (tgt := 40) hx hb dX10_of_11 (by decide) (fun hc => absurd hc (nI_ge (show i < 3 by omega) (by omega))) (fun _ => ?_)
      refine lv_aload_n hx hb dX10_of_14 rfl (lv_at hl 2 rfl) ?_
      refine lv_iload_n hx hb dX10_of_15 rfl (lv_at hl 0 rfl) ?_
      refine gqld hx hb hA.2.2.2.1 0 h9 rfl (vp_in_nI (show i < 3 by omega) (by omega)) dX10_of_16 ?_
      rw [nI_clamp (by omega), show enF 3 7 aF i = some (aF (7 + i)) from if_pos (by omega)]
      refine lv_astore (lv' := [(4, .ref (aF (7 + i))), (3, .int (nI i)), (2, .int (nI 3)), (1, .ref q), (0, .ref x)]) hx hb dX10_of_17 hl (by decide) rfl (fun ls hl => ?_)
      refine lv_aload hx hb dX10_of_19 (lv_at hl 0 rfl) ?_
      have hti := hT i (by omega)
      have hSz : va_S (zZ z) s.heap H locs := ⟨hS.1, fun q h1 h2 => hS.2.1 q h1 (fun g => h2 (Nat.le_trans hzN g)), fun l hl => Nat.le_trans hzN (hS.2.2 l hl)⟩
      refine vk_getf (A := zZ z) hx hb hti.2 hSz hown (hts _ q2796) (fun _ h => h) dX10_of_21 ?_
      refine lv_aload_n hx hb dX10_of_24 rfl (lv_at hl 4 rfl) ?_
      have hK : ¬ z ≤ aK (js i) := (hE.2.1.1.1 _ hti.1).1.choose_spec.2.2.2
      have hsp : SP s H x va (wlen τ) (wby τ) := SP.of hts hE.1 hs.2.2.1 hs.2.2.2.1 (by have := hs.2.2.2.2; omega)
      have hsk : SP s H (aK (js i)) (aV (js i)) (lenS.getD (js i) 0) (sBy (js i)) := SP.const hE.2.1 hti.1 hSz.2.1
      have hne : aK (js i) ≠ x := by have := hs.1; omega
      refine va_calli (va_runV (As := [.ref x]) (rest := []) ⟨hx, hb, hml, hown, hts⟩ (mJ6_equals l D J z aK aV (aK (js i)) x (aV (js i)) va (lenS.getD (js i) 0) (wlen τ) (sBy (js i)) (wby τ)) (cwV 1 hts (lw_V q1435 q1286 q1287 q147 q1288) rfl rfl rfl (by decide +kernel) ⟨Nat.le_of_ble_eq_true rfl, Nat.le_of_ble_eq_true rfl⟩) ⟨fun a U g mk q => ⟨q.1, ⟨q.2.1.1.mv (Vm.Alike.refl _) rfl rfl, q.2.1.2.1.mv (Vm.Alike.refl _) rfl rfl, q.2.1.2.2⟩, q.2.2.go (State.WarmedH.refl U) (fun _ _ _ => rfl)⟩, hsk.1, fun U hU hW => ⟨rfl, by
          show (SP U U.heap (aK (js i)) (aV (js i)) (lenS.getD (js i) 0) (sBy (js i)) ∧ SP U U.heap x va (wlen τ) (wby τ) ∧ aK (js i) ≠ x) ∧ _
          refine ⟨?_, hE.go hW (fun q h1 h2 => by rw [hU]; exact hSz.2.1 q h1 h2)⟩
          rw [hU]
          exact ⟨hsk.mv hW.alike rfl rfl, hsp.mv hW.alike rfl rfl, hne⟩⟩⟩ rfl rfl hl.1 rfl (lv_room (Nat.le_of_ble_eq_true rfl)) dX10_of_25 ⟨Nat.le_of_ble_eq_true rfl, Nat.le_of_ble_eq_true rfl⟩) hS (fun _ _ h => h.elim) (fun _ h => h.elim) (fun r u t H1 locs1 ht hvm hp hB hz1 hk1 hS => ?_)
      have hr : r = weqR τ (js i) := hp
      subst hr
      replace hs := hs.kept (fun q h => hk1 q h id)
      replace h9 := h9.kept (hk1 _ h9.lt id)
      clear hk1 hB hz1 ht hvm
      clear t
      by_cases c0 : weqR τ (js i) = 0
      · rw [c0]
        refine lv_if_eq (tgt := 34) hx hb dX10_of_28 (by decide) (fun _ => ?_) (fun hc => absurd rfl hc)
        refine lv_iinc (v := nI (i + 1)) (lv' := [(3, .int (nI (i + 1))), (4, .ref (aF (7 + i))), (2, .int (nI 3)), (1, .ref q), (0, .ref x)]) hx hb dX10_of_34 hl (k := 1) rfl (nI_1 i) (by decide) rfl (fun ls hl => ?_)
        refine lv_goto (tgt := 9) hx hb dX10_of_37 (by decide) ?_
        refine ih (i + 1) H1 locs1 ls (by omega) (Eq.trans ?_ hef) h9 hs hS (lv_sub hl [0, 2, 3, 4] rfl)
        show _ = (if weqR τ (js i) = 0 then efnd js τ k (i + 1) else some i)
        rw [if_pos c0]
      refine lv_if_eq (tgt := 34) hx hb dX10_of_28 (by decide) (fun hc => absurd hc c0) (fun _ => ?_)
      refine lv_aload hx hb dX10_of_31 (lv_at hl 0 rfl) ?_
      exact W.aret hx hb B.returns (Or.inl ⟨_, rfl⟩) (Or.inr ⟨_, rfl⟩) (fun t ht hW => ⟨⟨some (aF (7 + i)), (), rfl, by rw [← hef]; show some (aF (7 + i)) = Option.map _ (if weqR τ (js i) = 0 then efnd js τ k (i + 1) else some i); rw [if_neg c0]; rfl, trivial⟩, hS.F ht⟩) hS.2.2 dX10_of_33 B.notSynchronized
  exact loop 3 0 H locs _ (Nat.zero_add _) rfl h9 hs hS hl
set_option maxHeartbeats 4000000 in
theorem mX17_of : ∀ (l : Launch) (D9 D : va_G) (J : Nat → ClassId) (cK : ClassId) (kv z N N9 x va : Nat) (h0 z0 : Int32) (aK aV aF js : Nat → Nat) (τ : Cs), z ≤ N9 → z ≤ N → Met l yX17_of (ws_ yX17_of cX17_of 5 (some (.object "LateInks$Fact"))) ({ frames := 4, cells := 1, slots := 7, locals := 300 }) (va_Pc [.ref x] (fun U => (U.heap.size = N ∧ StrF D J N9 x va h0 z0 τ U.heap) ∧ EC D J z aK aV U ∧ EnA D9 "LateInks$Fact" "[LLateInks$Fact;" cK kv 7 0 aF z U ∧ EnT "LateInks$Fact" 0 7 js aK aF z U)) (va_Qq (fun (r : Option Nat) (_ : Unit) => r = (efnd js τ 7 0).map (fun i => aF (0 + i))) (fun _ _ => True) (fun q => N ≤ q)) 1 7 (fun q => N ≤ q) := by
  intro l D9 D J cK kv z N N9 x va h0 z0 aK aV aF js τ hz9 hzN
  refine Met.ofW (cc := cX17_of) (maxL := 5) (ret := some (.object "LateInks$Fact")) (by decide) rfl ?_
  intro p e s m args below meth c s₁ B hml hv
  obtain ⟨rfl, ⟨hN, hs⟩, hE, hA, hT⟩ := hv
  have hts := atoms_spec (ws := ws_ yX17_of cX17_of 5 (some (.object "LateInks$Fact"))) B.pre
  have hts : ∀ w ∈ lw_all, w.before _ s = true := fun w h => hts w (List.mem_cons_of_mem _ h)
  have hown : s.vm.findClass RX17 = some m.cls := findClass_of_methodNamed B.named
  have hl := lv_entry [.ref x] (n := 5) (Nat.le_of_ble_eq_true rfl)
  rw [lg_entry_eq]
  generalize (lg_sl [.ref x] ++ List.replicate (5 - (lg_sl [.ref x]).length) Slot.unset).toArray = ls at hl ⊢
  have hl : lv_has ls 5 [(0, .ref x)] := hl
  have hx := B.exec
  have hb := B.bytes
  refine va_callr (va_runS (As := []) (rest := []) ⟨hx, hb, hml, hown, hts⟩ (mX17_values l D9 cK kv z N aF) (va_cwS 0 hts (lw_S q1539 q1540 q170 q1541) rfl rfl rfl (by decide +kernel) ⟨Nat.le_of_ble_eq_true rfl, Nat.le_of_ble_eq_true rfl⟩) ⟨fun _ U g mk q => ⟨q.1, q.2.1, q.2.2.go (State.WarmedH.refl U) (fun _ _ _ => rfl)⟩, fun U hU hW => ⟨rfl, by rw [hU]; exact hN, hA.go hW (fun _ _ _ => by rw [hU])⟩⟩ rfl rfl hl.1 rfl (lv_room (Nat.le_of_ble_eq_true rfl)) dX17_of_0 ⟨Nat.le_of_ble_eq_true rfl, Nat.le_of_ble_eq_true rfl⟩) (va_S.rf (A := (fun q => N ≤ q))) (fun _ _ h => h) (fun _ h => h) (fun u q t H locs ht hvm hp hB hz1 hk1 hS => ?_)
  obtain ⟨hNq, h9⟩ := hB
  rw [ht] at h9
  replace h9 : va_at D9 [] (q, .inl (cK, (7, .inr (.inr (.inr (.inr (enF 7 0 aF))))))) H := h9
  have hs : StrF D J N9 x va h0 z0 τ H := ⟨hs.1, hs.2.1, hs.2.2.1.kept (hk1 _ hs.2.2.1.lt (by have h8 : x < s.heap.size := hs.2.2.1.lt; show ¬ N ≤ x; omega)), hs.2.2.2.1.kept (hk1 _ hs.2.2.2.1.lt (by have h8 : va < s.heap.size := hs.2.2.2.1.lt; show ¬ N ≤ va; omega)), hs.2.2.2.2⟩
  clear ht hvm hk1 hz1
  clear t
  refine lv_astore_n (lv' := [(1, .ref q), (0, .ref x)]) hx hb dX17_of_3 rfl hl (by decide) rfl (fun ls hl => ?_)
  refine lv_aload_n hx hb dX17_of_4 rfl (lv_at hl 0 rfl) ?_
  refine va_alen (v := nI 7) hx hb hA.2.2.2.1 (va_P1 h9) 0 0 rfl rfl rfl dX17_of_5 ?_
  refine lv_istore_n (lv' := [(2, .int (nI 7)), (1, .ref q), (0, .ref x)]) hx hb dX17_of_6 rfl hl (by decide) rfl (fun ls hl => ?_)
  refine lv_iconst (v := (0 : Int32)) hx hb dX17_of_7 (by decide) ?_
  refine lv_istore_n (lv' := [(3, .int (0 : Int32)), (2, .int (nI 7)), (1, .ref q), (0, .ref x)]) hx hb dX17_of_8 rfl hl (by decide) rfl (fun ls hl => ?_)
  have loop : ∀ (k i : Nat) (H : Heap) (locs : List Loc) (ls : Array Slot), i + k = 7 → efnd js τ k i = efnd js τ 7 0 → va_at D9 [] (q, .inl (cK, (7, .inr (.inr (.inr (.inr (enF 7 0 aF))))))) H → StrF D J N9 x va h0 z0 τ H → va_S (fun q => N ≤ q) s.heap H locs → lv_has ls 5 [(3, .int (nI i)), (2, .int (nI 7)), (1, .ref q), (0, .ref x)] → W p l e ({ frames := 4, cells := 1, slots := 7, locals := 300 } : Room) s m #[Value.ref x] below meth c H locs 1 7 (MQ below (va_Qq (fun (r : Option Nat) (_ : Unit) => r = (efnd js τ 7 0).map (fun i => aF (0 + i))) (fun _ _ => True) (fun q => N ≤ q)) #[Value.ref x] s 1 7 (fun q => N ≤ q)) (F0 m 9 ls []) := by
    intro k
    induction k with
    | zero =>
      intro i H locs ls hik hef h9 hs hS hl
      refine lv_iload_n hx hb dX17_of_9 rfl (lv_at hl 0 rfl) ?_
      refine lv_iload_n hx hb dX17_of_10 rfl (lv_at hl 1 rfl) ?_
      refine lv_icmp_ge (tgt := 40) hx hb dX17_of_11 (by decide) (fun _ => ?_) (fun hc => absurd (nI_le (show 7 ≤ i by omega) (by omega)) hc)
      refine lv_null hx hb dX17_of_40 ?_
      exact W.aret hx hb B.returns (Or.inl ⟨_, rfl⟩) (Or.inl rfl) (fun t ht hW => ⟨⟨none, (), rfl, by rw [← hef]; rfl, trivial⟩, hS.F ht⟩) hS.2.2 dX17_of_41 B.notSynchronized
    | succ k ih =>
      intro i H locs ls hik hef h9 hs hS hl
      refine lv_iload_n hx hb dX17_of_9 rfl (lv_at hl 0 rfl) ?_
      refine lv_iload_n hx hb dX17_of_10 rfl (lv_at hl 1 rfl) ?_
      refine lv_icmp_ge (tgt := 40) hx hb dX17_of_11 (by decide) (fun hc => absurd hc (nI_ge (show i < 7 by omega) (by omega))) (fun _ => ?_)
      refine lv_aload_n hx hb dX17_of_14 rfl (lv_at hl 2 rfl) ?_
      refine lv_iload_n hx hb dX17_of_15 rfl (lv_at hl 0 rfl) ?_
      refine gqld hx hb hA.2.2.2.1 0 h9 rfl (vp_in_nI (show i < 7 by omega) (by omega)) dX17_of_16 ?_
      rw [nI_clamp (by omega), show enF 7 0 aF i = some (aF (0 + i)) from if_pos (by omega)]
      refine lv_astore (lv' := [(4, .ref (aF (0 + i))), (3, .int (nI i)), (2, .int (nI 7)), (1, .ref q), (0, .ref x)]) hx hb dX17_of_17 hl (by decide) rfl (fun ls hl => ?_)
      refine lv_aload hx hb dX17_of_19 (lv_at hl 0 rfl) ?_
      have hti := hT i (by omega)
      have hSz : va_S (zZ z) s.heap H locs := ⟨hS.1, fun q h1 h2 => hS.2.1 q h1 (fun g => h2 (Nat.le_trans hzN g)), fun l hl => Nat.le_trans hzN (hS.2.2 l hl)⟩
      refine vk_getf (A := zZ z) hx hb hti.2 hSz hown (hts _ q2797) (fun _ h => h) dX17_of_21 ?_
      refine lv_aload_n hx hb dX17_of_24 rfl (lv_at hl 4 rfl) ?_
      have hK : ¬ z ≤ aK (js i) := (hE.2.1.1.1 _ hti.1).1.choose_spec.2.2.2
      have hsp : SP s H x va (wlen τ) (wby τ) := SP.of hts hE.1 hs.2.2.1 hs.2.2.2.1 (by have := hs.2.2.2.2; omega)
      have hsk : SP s H (aK (js i)) (aV (js i)) (lenS.getD (js i) 0) (sBy (js i)) := SP.const hE.2.1 hti.1 hSz.2.1
      have hne : aK (js i) ≠ x := by have := hs.1; omega
      refine va_calli (va_runV (As := [.ref x]) (rest := []) ⟨hx, hb, hml, hown, hts⟩ (mJ6_equals l D J z aK aV (aK (js i)) x (aV (js i)) va (lenS.getD (js i) 0) (wlen τ) (sBy (js i)) (wby τ)) (cwV 1 hts (lw_V q1550 q1286 q1287 q147 q1288) rfl rfl rfl (by decide +kernel) ⟨Nat.le_of_ble_eq_true rfl, Nat.le_of_ble_eq_true rfl⟩) ⟨fun a U g mk q => ⟨q.1, ⟨q.2.1.1.mv (Vm.Alike.refl _) rfl rfl, q.2.1.2.1.mv (Vm.Alike.refl _) rfl rfl, q.2.1.2.2⟩, q.2.2.go (State.WarmedH.refl U) (fun _ _ _ => rfl)⟩, hsk.1, fun U hU hW => ⟨rfl, by
          show (SP U U.heap (aK (js i)) (aV (js i)) (lenS.getD (js i) 0) (sBy (js i)) ∧ SP U U.heap x va (wlen τ) (wby τ) ∧ aK (js i) ≠ x) ∧ _
          refine ⟨?_, hE.go hW (fun q h1 h2 => by rw [hU]; exact hSz.2.1 q h1 h2)⟩
          rw [hU]
          exact ⟨hsk.mv hW.alike rfl rfl, hsp.mv hW.alike rfl rfl, hne⟩⟩⟩ rfl rfl hl.1 rfl (lv_room (Nat.le_of_ble_eq_true rfl)) dX17_of_25 ⟨Nat.le_of_ble_eq_true rfl, Nat.le_of_ble_eq_true rfl⟩) hS (fun _ _ h => h.elim) (fun _ h => h.elim) (fun r u t H1 locs1 ht hvm hp hB hz1 hk1 hS => ?_)
      have hr : r = weqR τ (js i) := hp
      subst hr
      replace hs := hs.kept (fun q h => hk1 q h id)
      replace h9 := h9.kept (hk1 _ h9.lt id)
      clear hk1 hB hz1 ht hvm
      clear t
      by_cases c0 : weqR τ (js i) = 0
      · rw [c0]
        refine lv_if_eq (tgt := 34) hx hb dX17_of_28 (by decide) (fun _ => ?_) (fun hc => absurd rfl hc)
        refine lv_iinc (v := nI (i + 1)) (lv' := [(3, .int (nI (i + 1))), (4, .ref (aF (0 + i))), (2, .int (nI 7)), (1, .ref q), (0, .ref x)]) hx hb dX17_of_34 hl (k := 1) rfl (nI_1 i) (by decide) rfl (fun ls hl => ?_)
        refine lv_goto (tgt := 9) hx hb dX17_of_37 (by decide) ?_
        refine ih (i + 1) H1 locs1 ls (by omega) (Eq.trans ?_ hef) h9 hs hS (lv_sub hl [0, 2, 3, 4] rfl)
        show _ = (if weqR τ (js i) = 0 then efnd js τ k (i + 1) else some i)
        rw [if_pos c0]
      refine lv_if_eq (tgt := 34) hx hb dX17_of_28 (by decide) (fun hc => absurd hc c0) (fun _ => ?_)
      refine lv_aload hx hb dX17_of_31 (lv_at hl 0 rfl) ?_
      exact W.aret hx hb B.returns (Or.inl ⟨_, rfl⟩) (Or.inr ⟨_, rfl⟩) (fun t ht hW => ⟨⟨some (aF (0 + i)), (), rfl, by rw [← hef]; show some (aF (0 + i)) = Option.map _ (if weqR τ (js i) = 0 then efnd js τ k (i + 1) else some i); rw [if_neg c0]; rfl, trivial⟩, hS.F ht⟩) hS.2.2 dX17_of_33 B.notSynchronized
  exact loop 7 0 H locs _ (Nat.zero_add _) rfl h9 hs hS hl
