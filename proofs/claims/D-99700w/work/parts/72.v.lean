set_option maxRecDepth 100000
/-- an enum's constants, as its static array has them -/
def enF (n b : Nat) (aF : Nat → Nat) : Nat → Option Nat := fun i => if i < n then some (aF (b + i)) else none
def EnA (D9 : va_G) (C A : String) (cK : ClassId) (kv n b : Nat) (aF : Nat → Nat) (z : Nat) (U : State) : Prop := va_Z C "$VALUES" A (.ref kv) (zZ z) U U.heap ∧ ¬ z ≤ kv ∧ U.heap[kv]? = some (vp_cell cK (n, .inr (.inr (.inr (.inr (enF n b aF)))))) ∧ va_K D9 [] [(cK, .object C)] U ∧ va_Nw (.castable A "java/lang/Cloneable") U
theorem EnA.go {D9 : va_G} {C A : String} {cK : ClassId} {kv n b : Nat} {aF : Nat → Nat} {z : Nat} {s U : State} (h : EnA D9 C A cK kv n b aF z s) (hW : s.WarmedH U.vm) (hq : ∀ q : Nat, q < s.heap.size → ¬ z ≤ q → U.heap[q]? = s.heap[q]?) : EnA D9 C A cK kv n b aF z U :=
  ⟨va_Z.moved hW.alike (h.1.kept hq), h.2.1, by rw [hq kv (Array.getElem?_eq_some_iff.mp h.2.2.1).1 h.2.1]; exact h.2.2.1, va_K.moved hW.alike h.2.2.2.1, va_Nw.warmC hW h.2.2.2.2⟩
set_option maxHeartbeats 4000000 in
theorem mX10_values : ∀ (l : Launch) (D9 : va_G) (cK : ClassId) (kv z N : Nat) (aF : Nat → Nat), Met l yX10_values (ws_ yX10_values cX10_values 0 (some (.array (.object "LateInks$Kind")))) ({ frames := 2, cells := 1, slots := 3, locals := 60 }) (va_Pc [] (fun U => U.heap.size = N ∧ EnA D9 "LateInks$Kind" "[LLateInks$Kind;" cK kv 3 7 aF z U)) (va_Qr (fun (_ : Unit) => True) (fun _ x t => N ≤ x ∧ t.heap[x]? = some (vp_cell cK (3, .inr (.inr (.inr (.inr (enF 3 7 aF))))))) (fun q => N ≤ q)) 1 3 (fun q => N ≤ q) := by
  intro l D9 cK kv z N aF
  refine Met.ofW (cc := cX10_values) (maxL := 0) (ret := some (.array (.object "LateInks$Kind"))) (by decide) rfl ?_
  intro p e s m args below meth c s₁ B hml hv
  obtain ⟨rfl, hN, hE⟩ := hv
  have hts := atoms_spec (ws := ws_ yX10_values cX10_values 0 (some (.array (.object "LateInks$Kind")))) B.pre
  have hts : ∀ w ∈ lw_all, w.before _ s = true := fun w h => hts w (List.mem_cons_of_mem _ h)
  have hown : s.vm.findClass RX10 = some m.cls := findClass_of_methodNamed B.named
  have hl := lv_entry [] (n := 0) (Nat.le_of_ble_eq_true rfl)
  rw [lg_entry_eq]
  generalize (lg_sl [] ++ List.replicate (0 - (lg_sl []).length) Slot.unset).toArray = ls at hl ⊢
  have hl : lv_has ls 0 [] := hl
  have hx := B.exec
  have hb := B.bytes
  refine va_gets (A := zZ z) hx hb hE.1 va_S.rf hown (hts _ q1427) (fun _ h => h) dX10_values_0 ?_
  refine va_clone (A := fun q => q = kv ∨ N ≤ q) (cl := []) (D := D9) (ws := [(kv, .inl (cK, (3, .inr (.inr (.inr (.inr (enF 3 7 aF)))))))]) hx hb (hml.trans hl.1.symm) hown (hts _ q1429) (hts _ q1430) (hts _ q929) (hts _ q930) (hts _ q1431) hE.2.2.2.2 hE.2.2.2.1 ?_ ⟨fun i j p q hi hj e => ?_, fun i q hi => ?_⟩ (va_S.rf (H0 := s.heap)) (fun q h => Or.inr (by omega)) 0 0 rfl rfl (va_nmO (hE.2.2.2.1.2 0 _ rfl).2 (by decide)) ?_ (Nat.le_of_ble_eq_true rfl) (Nat.le_of_ble_eq_true rfl) (Nat.le_of_ble_eq_true rfl) (Nat.le_of_ble_eq_true rfl) dX10_values_3 (fun q9 H1 _ hP9 hD9 hS9 => ?_)
  · intro i q hi
    match i, hi with
    | 0, hi => cases hi; exact hE.2.2.1
    | i + 1, hi => cases hi
  · match i, j, hi, hj with
    | 0, 0, _, _ => rfl
    | 0, j + 1, _, hj => cases hj
    | i + 1, _, hi, _ => cases hi
  · match i, hi with
    | 0, hi => cases hi; exact Or.inl rfl
    | i + 1, hi => cases hi
  · exact va_fit (F := fun j => va_rf (enF 3 7 aF j)) (fun i _ => by
      show fits _ (va_rf (enF 3 7 aF i)) = true
      cases enF 3 7 aF i <;> rfl)
  have h9 : va_at D9 [] (q9, .inl (cK, (3, .inr (.inr (.inr (.inr (enF 3 7 aF))))))) H1 := hP9 1 _ rfl
  have hq9 : N ≤ q9 := by
    rcases hD9.2 1 _ rfl with g | g
    · have := hD9.1 0 1 _ _ rfl rfl g.symm
      cases this
    · exact g
  have hS : va_S (fun x => N ≤ x) s.heap H1 [] := ⟨hS9.1, fun q g1 g2 => by
    by_cases g : q = kv
    · rw [g]; exact (show H1[kv]? = some _ from hP9 0 _ rfl).trans (show s.heap[kv]? = some _ from hE.2.2.1).symm
    · exact hS9.2.1 q g1 (fun k => k.elim g g2), fun l g => by cases g⟩
  refine va_castA hx hb hown (hts _ q1434) (va_P1 h9) 0 rfl (va_nmO (hE.2.2.2.1.2 0 _ rfl).2 (by decide)) dX10_values_6 ?_
  exact W.widen (k := 1) (n := 3) (Nat.le_refl _) (Nat.le_refl _) (W.aret hx hb B.returns (Or.inr ⟨_, rfl⟩) (Or.inr ⟨_, rfl⟩) (fun t ht hW => ⟨⟨(), _, rfl, trivial, hq9, by rw [ht]; exact h9⟩, hS.F ht⟩) hS.2.2 dX10_values_9 B.notSynchronized)
set_option maxHeartbeats 4000000 in
theorem mX17_values : ∀ (l : Launch) (D9 : va_G) (cK : ClassId) (kv z N : Nat) (aF : Nat → Nat), Met l yX17_values (ws_ yX17_values cX17_values 0 (some (.array (.object "LateInks$Fact")))) ({ frames := 2, cells := 1, slots := 7, locals := 60 }) (va_Pc [] (fun U => U.heap.size = N ∧ EnA D9 "LateInks$Fact" "[LLateInks$Fact;" cK kv 7 0 aF z U)) (va_Qr (fun (_ : Unit) => True) (fun _ x t => N ≤ x ∧ t.heap[x]? = some (vp_cell cK (7, .inr (.inr (.inr (.inr (enF 7 0 aF))))))) (fun q => N ≤ q)) 1 7 (fun q => N ≤ q) := by
  intro l D9 cK kv z N aF
  refine Met.ofW (cc := cX17_values) (maxL := 0) (ret := some (.array (.object "LateInks$Fact"))) (by decide) rfl ?_
  intro p e s m args below meth c s₁ B hml hv
  obtain ⟨rfl, hN, hE⟩ := hv
  have hts := atoms_spec (ws := ws_ yX17_values cX17_values 0 (some (.array (.object "LateInks$Fact")))) B.pre
  have hts : ∀ w ∈ lw_all, w.before _ s = true := fun w h => hts w (List.mem_cons_of_mem _ h)
  have hown : s.vm.findClass RX17 = some m.cls := findClass_of_methodNamed B.named
  have hl := lv_entry [] (n := 0) (Nat.le_of_ble_eq_true rfl)
  rw [lg_entry_eq]
  generalize (lg_sl [] ++ List.replicate (0 - (lg_sl []).length) Slot.unset).toArray = ls at hl ⊢
  have hl : lv_has ls 0 [] := hl
  have hx := B.exec
  have hb := B.bytes
  refine va_gets (A := zZ z) hx hb hE.1 va_S.rf hown (hts _ q1542) (fun _ h => h) dX17_values_0 ?_
  refine va_clone (A := fun q => q = kv ∨ N ≤ q) (cl := []) (D := D9) (ws := [(kv, .inl (cK, (7, .inr (.inr (.inr (.inr (enF 7 0 aF)))))))]) hx hb (hml.trans hl.1.symm) hown (hts _ q1544) (hts _ q1545) (hts _ q929) (hts _ q930) (hts _ q1546) hE.2.2.2.2 hE.2.2.2.1 ?_ ⟨fun i j p q hi hj e => ?_, fun i q hi => ?_⟩ (va_S.rf (H0 := s.heap)) (fun q h => Or.inr (by omega)) 0 0 rfl rfl (va_nmO (hE.2.2.2.1.2 0 _ rfl).2 (by decide)) ?_ (Nat.le_of_ble_eq_true rfl) (Nat.le_of_ble_eq_true rfl) (Nat.le_of_ble_eq_true rfl) (Nat.le_of_ble_eq_true rfl) dX17_values_3 (fun q9 H1 _ hP9 hD9 hS9 => ?_)
  · intro i q hi
    match i, hi with
    | 0, hi => cases hi; exact hE.2.2.1
    | i + 1, hi => cases hi
  · match i, j, hi, hj with
    | 0, 0, _, _ => rfl
    | 0, j + 1, _, hj => cases hj
    | i + 1, _, hi, _ => cases hi
  · match i, hi with
    | 0, hi => cases hi; exact Or.inl rfl
    | i + 1, hi => cases hi
  · exact va_fit (F := fun j => va_rf (enF 7 0 aF j)) (fun i _ => by
      show fits _ (va_rf (enF 7 0 aF i)) = true
      cases enF 7 0 aF i <;> rfl)
  have h9 : va_at D9 [] (q9, .inl (cK, (7, .inr (.inr (.inr (.inr (enF 7 0 aF))))))) H1 := hP9 1 _ rfl
  have hq9 : N ≤ q9 := by
    rcases hD9.2 1 _ rfl with g | g
    · have := hD9.1 0 1 _ _ rfl rfl g.symm
      cases this
    · exact g
  have hS : va_S (fun x => N ≤ x) s.heap H1 [] := ⟨hS9.1, fun q g1 g2 => by
    by_cases g : q = kv
    · rw [g]; exact (show H1[kv]? = some _ from hP9 0 _ rfl).trans (show s.heap[kv]? = some _ from hE.2.2.1).symm
    · exact hS9.2.1 q g1 (fun k => k.elim g g2), fun l g => by cases g⟩
  refine va_castA hx hb hown (hts _ q1549) (va_P1 h9) 0 rfl (va_nmO (hE.2.2.2.1.2 0 _ rfl).2 (by decide)) dX17_values_6 ?_
  exact W.widen (k := 1) (n := 7) (Nat.le_refl _) (Nat.le_refl _) (W.aret hx hb B.returns (Or.inr ⟨_, rfl⟩) (Or.inr ⟨_, rfl⟩) (fun t ht hW => ⟨⟨(), _, rfl, trivial, hq9, by rw [ht]; exact h9⟩, hS.F ht⟩) hS.2.2 dX17_values_9 B.notSynchronized)
