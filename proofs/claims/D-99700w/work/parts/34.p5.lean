/-! PURE: a season on both sides -/
theorem upW_r {w : Mm} {d r : Nat} (h0 : r ≠ 0) (h1 : r ≠ 25) (h2 : r ≠ 26) (h3 : r ≠ 27) : upW w d r = w r := by
  unfold upW
  rw [tell_r h0 h3, mup_r h1, mup_r h2]
theorem upW_0 {w : Mm} {d j : Nat} (h : j ≠ 7) : upW w d 0 j = w 0 j := by
  unfold upW
  rw [tell_0 h, mup_r (by decide), mup_r (by decide)]
theorem upW_26 {w : Mm} {d j : Nat} : upW w d 26 j = if j = d then 1 else w 26 j := by
  unfold upW
  rw [tell_r (by decide) (by decide), mup_r (by decide), mup_e]
  rfl
theorem upW_25 {w : Mm} {d j : Nat} : upW w d 25 j = if j = d then w 0 4 else w 25 j := by
  unfold upW
  rw [tell_r (by decide) (by decide), mup_e, mup_r (by decide)]
  rfl
section SEA
variable {L : Nat → (Nat → Int32) → Int32} {s : Int32} {w : Mm}
theorem ripW_r {d r : Nat} (h0 : r ≠ 0) (h4 : r ≠ 24) (h1 : r ≠ 25) (h2 : r ≠ 26) (h3 : r ≠ 27) : ripW L w d s r = w r := by
  unfold ripW
  generalize (if (w 24 d + ripV L w d) + s < 999 then (w 24 d + ripV L w d) + s else 999) = v
  split
  · exact mup_r h4
  · rw [upW_r h0 h1 h2 h3, mup_r h4]
theorem ripW_0 {d j : Nat} (h : j ≠ 7) : ripW L w d s 0 j = w 0 j := by
  unfold ripW
  generalize (if (w 24 d + ripV L w d) + s < 999 then (w 24 d + ripV L w d) + s else 999) = v
  split
  · rw [mup_r (by decide)]
  · rw [upW_0 h, mup_r (by decide)]
theorem ripW_o {d j : Nat} (h : j ≠ d) : ripW L w d s 26 j = w 26 j ∧ ripW L w d s 25 j = w 25 j := by
  unfold ripW
  generalize (if (w 24 d + ripV L w d) + s < 999 then (w 24 d + ripV L w d) + s else 999) = v
  split
  · rw [mup_r (by decide), mup_r (by decide)]; exact ⟨rfl, rfl⟩
  · rw [upW_26, upW_25, if_neg h, if_neg h, mup_r (by decide), mup_r (by decide)]; exact ⟨rfl, rfl⟩
theorem ripW_d {d : Nat} : ripW L w d s 26 d = w 26 d ∨ ripW L w d s 26 d = 1 ∧ ripW L w d s 25 d = w 0 4 := by
  unfold ripW
  generalize (if (w 24 d + ripV L w d) + s < 999 then (w 24 d + ripV L w d) + s else 999) = v
  split
  · left; rw [mup_r (by decide)]
  · right; rw [upW_26, upW_25, if_pos rfl, if_pos rfl, mup_r (by decide)]; exact ⟨rfl, rfl⟩
theorem seaA_r {n r : Nat} (h0 : r ≠ 0) (h4 : r ≠ 24) (h1 : r ≠ 25) (h2 : r ≠ 26) (h3 : r ≠ 27) : seaA L s n w r = w r := by
  induction n with
  | zero => rfl
  | succ n ih =>
    show (if _ then _ else _ : Mm) r = _
    split
    · rw [ripW_r h0 h4 h1 h2 h3, ih]
    · exact ih
theorem seaA_0 {n j : Nat} (h : j ≠ 7) : seaA L s n w 0 j = w 0 j := by
  induction n with
  | zero => rfl
  | succ n ih =>
    show (if _ then _ else _ : Mm) 0 j = _
    split
    · rw [ripW_0 h, ih]
    · exact ih
theorem seaA_hi {n j : Nat} (h : n ≤ j) : seaA L s n w 26 j = w 26 j ∧ seaA L s n w 25 j = w 25 j := by
  induction n with
  | zero => exact ⟨rfl, rfl⟩
  | succ n ih =>
    have ih := ih (by omega)
    show (if _ then _ else _ : Mm) 26 j = _ ∧ (if _ then _ else _ : Mm) 25 j = _
    split
    · rw [(ripW_o (show j ≠ n by omega)).1, (ripW_o (show j ≠ n by omega)).2]
      exact ih
    · exact ih
theorem seaA_lo {n j : Nat} (hj : w 26 j = 0) : seaA L s n w 26 j = 0 ∨ seaA L s n w 26 j = 1 ∧ seaA L s n w 25 j = w 0 4 := by
  induction n with
  | zero => exact Or.inl hj
  | succ n ih =>
    show (if _ then _ else _ : Mm) 26 j = 0 ∨ (if _ then _ else _ : Mm) 26 j = 1 ∧ (if _ then _ else _ : Mm) 25 j = _
    split
    · rename_i c
      by_cases e : j = n
      · subst e
        rcases ripW_d (L := L) (s := s) (w := seaA L s j w) (d := j) with q | q
        · left; rw [q]; exact c
        · right; rw [q.1, q.2, seaA_0 (by decide)]; exact ⟨rfl, rfl⟩
      · rw [(ripW_o e).1, (ripW_o e).2]
        exact ih
    · exact ih
theorem fadeW_r {v : Mm} {d r : Nat} (h0 : r ≠ 0) (h2 : r ≠ 26) (h3 : r ≠ 27) : fadeW v d r = v r := by
  unfold fadeW
  split
  · rw [tell_r h0 h3, mup_r h2]
  · rfl
theorem fadeW_0 {v : Mm} {d j : Nat} (h : j ≠ 7) : fadeW v d 0 j = v 0 j := by
  unfold fadeW
  split
  · rw [tell_0 h, mup_r (by decide)]
  · rfl
theorem fadeW_o {v : Mm} {d j : Nat} (h : j ≠ d) : fadeW v d 26 j = v 26 j := by
  unfold fadeW
  split
  · rw [tell_r (by decide) (by decide), mup_j h]
  · rfl
theorem seaB_r {v : Mm} {n r : Nat} (h0 : r ≠ 0) (h2 : r ≠ 26) (h3 : r ≠ 27) : seaB n v r = v r := by
  induction n with
  | zero => rfl
  | succ n ih => show fadeW (seaB n v) n r = _; rw [fadeW_r h0 h2 h3, ih]
theorem seaB_0 {v : Mm} {n j : Nat} (h : j ≠ 7) : seaB n v 0 j = v 0 j := by
  induction n with
  | zero => rfl
  | succ n ih => show fadeW (seaB n v) n 0 j = _; rw [fadeW_0 h, ih]
theorem seaB_hi {v : Mm} {n j : Nat} (h : n ≤ j) : seaB n v 26 j = v 26 j := by
  induction n with
  | zero => rfl
  | succ n ih => show fadeW (seaB n v) n 26 j = _; rw [fadeW_o (by omega), ih (by omega)]
end SEA
theorem FUle {n : Nat} (h : n ≤ 8) : n < FU := FU8 h
section TW3
variable {τ w : Mm}
theorem T_n5 (h : WR w (τ 0)) (hw : WI w) : τ 0 5 = nI (nD w) := (h 0 3 (by decide)).symm.trans hw.D.1
theorem T_passes0 {L : Nat → (Nat → Int32) → Int32} (s : Int32) (h : WR w (τ 0)) (hw : WI w) (hL : LR L (τ 0)) : Rn (X7_passes_J32 τ s) (fun x => x.1 = seaN L s w ∧ Tr τ x.2 (seaW L s w)) := by
  have hD := hw.D
  have hK := hw.K.2
  unfold X7_passes_J32
  rw [T_inState h hw]
  simp only [obs]
  have blank : ∀ i, i < nD w → hasB (stB w 0) (nI i) = decide (w 26 i = 0) := fun i hi => hasB_sBits (by omega) _ hi
  have r1 : Rn (loopO (X7_passes_L42 s (stB w 0)) FU (τ, (0 : Int32))) (fun x => Tr τ x (seaA L s (nD w) w)) := by
    refine loopO_inv (fun i x => Tr τ x.1 (seaA L s i w) ∧ x.2 = nI i) _ (nD w) (FU8 hD.2) (fun i x hi hx => ?_) ⟨Tr.rf h, rfl⟩
    obtain ⟨t1, e2⟩ := hx
    obtain ⟨x1, x2⟩ := x
    simp only at t1 e2
    subst e2
    have hv := wi_seaA hw L s i
    unfold X7_passes_L42
    simp only []
    rw [T_n5 t1.1 hv.1, hv.2.2.2]
    rcases Nat.lt_or_ge i (nD w) with hlt | hge
    · have hi8 : i < 8 := by omega
      rw [if_neg (nI_ge hlt (by omega)), isOf_s, blank i hlt]
      simp only [obs, b01_0, decide_eq_false_iff_not]
      have eA : seaA L s (i + 1) w = if seaA L s i w 26 i = 0 then ripW L (seaA L s i w) i s else seaA L s i w := rfl
      rw [(seaA_hi (Nat.le_refl i)).1] at eA
      by_cases c : w 26 i = 0
      · rw [if_neg (by simpa using c)]
        rw [if_pos c] at eA
        obtain ⟨τ1, q1, t2, a17, -⟩ := T_asks (L := L) t1.1 hv.1 (d := i) (by rw [hv.2.2.2]; exact hlt) (hL.congr t1.2.1)
        rw [q1]
        simp only [obs]
        rw [T_of8 t2.1 hi8]
        simp only [obs, lesser_s, a17]
        rw [T_lays8 hi8]
        simp only [obs]
        generalize ev : (if seaA L s i w 24 i + ripV L (seaA L s i w) i + s < 999 then seaA L s i w 24 i + ripV L (seaA L s i w) i + s else 999) = v
        have t3 := t2.tr (Tr.put t2.1 (r := 24) (j := i) hi8 v)
        obtain ⟨kk, hk1, hk2⟩ := hv.1.ink (d := i) (by rw [hv.2.2.2]; exact hlt)
        have hk3 := hv.1.K.2
        rw [T_of8 t3.1 hi8, T_of0 t3.1 hi8, mup_s, mup_r (show (16 : Nat) ≠ 24 by decide), hk2]
        simp only [obs]
        rw [T_ink0 t3.1 (by omega), mup_r (show (11 : Nat) ≠ 24 by decide)]
        simp only [obs]
        have eR : ripW L (seaA L s i w) i s = if v < seaA L s i w 11 kk then mup (seaA L s i w) 24 i v else upW (mup (seaA L s i w) 24 i v) i := by
          unfold ripW
          simp only []
          rw [ev, mup_s, hk2, tN_nI (by omega)]
        rw [eR] at eA
        by_cases c2 : v < seaA L s i w 11 kk
        · rw [if_pos c2]
          rw [if_pos c2] at eA
          refine Rn.mk (Or.inl ⟨_, rfl, hlt, ?_, nI_1 i⟩)
          rw [eA]
          exact t1.tr t3
        · rw [if_neg c2]
          rw [if_neg c2] at eA
          obtain ⟨τ4, q4, t4⟩ := T_comesUp t3.1 hi8
          rw [q4]
          refine Rn.mk (Or.inl ⟨_, rfl, hlt, ?_, nI_1 i⟩)
          rw [eA]
          exact t1.tr (t3.tr t4)
      · rw [if_pos (by simpa using c)]
        rw [if_neg c] at eA
        refine Rn.mk (Or.inl ⟨_, rfl, hlt, ?_, nI_1 i⟩)
        rw [eA]
        exact t1
    · have : i = nD w := by omega
      subst this
      rw [if_pos (nI_le (Nat.le_refl _) (by omega))]
      exact Rn.mk (Or.inr ⟨_, rfl, t1⟩)
  obtain ⟨τ1, q1, t1⟩ := r1
  rw [q1]
  simp only [obs]
  have hA := wi_seaA hw L s (nD w)
  generalize eA : seaA L s (nD w) w = wA at t1 hA
  have r2 : Rn (loopO (X7_passes_L138 (stB w 0)) FU (τ1, (0 : Int32))) (fun x => Tr τ x (seaB (nD w) wA)) := by
    refine loopO_inv (fun i x => Tr τ x.1 (seaB i wA) ∧ x.2 = nI i) _ (nD w) (FU8 hD.2) (fun i x hi hx => ?_) ⟨t1, rfl⟩
    obtain ⟨t1, e2⟩ := hx
    obtain ⟨x1, x2⟩ := x
    simp only at t1 e2
    subst e2
    have hv := wi_seaB hA.1 i
    have hs := hA.2.tr hv.2
    unfold X7_passes_L138
    simp only []
    rw [T_n5 t1.1 hv.1, hs.2.2]
    rcases Nat.lt_or_ge i (nD w) with hlt | hge
    · have hi8 : i < 8 := by omega
      obtain ⟨kk, hk1, hk2⟩ := hv.1.ink (d := i) (by rw [hs.2.2]; exact hlt)
      have hk3 := hv.1.K.2
      rw [if_neg (nI_ge hlt (by omega)), T_of0 t1.1 hi8, hk2]
      simp only [obs]
      rw [T_ink1 t1.1 (by omega), isOf_s, blank i hlt]
      simp only [obs, b01_0, decide_eq_false_iff_not]
      have eB : seaB (i + 1) wA = fadeW (seaB i wA) i := rfl
      have e4 : x1 0 6 = seaB i wA 0 4 := (t1.1 0 4 (by decide)).symm
      by_cases c : w 26 i = 0
      · rw [if_neg (by simpa using c)]
        have hf : fadeC (seaB i wA) i = false := by
          have b26 : seaB i wA 26 i = wA 26 i := seaB_hi (Nat.le_refl _)
          have b25 : seaB i wA 25 i = wA 25 i := by rw [seaB_r (by decide) (by decide) (by decide)]
          have b04 : seaB i wA 0 4 = w 0 4 := by rw [seaB_0 (by decide), ← eA, seaA_0 (by decide)]
          unfold fadeC
          rw [b26, b25, b04, hk2, tN_nI (by omega)]
          rcases (show wA 26 i = 0 ∨ wA 26 i = 1 ∧ wA 25 i = w 0 4 from by rw [← eA]; exact seaA_lo c) with q | ⟨q, q2⟩
          · rw [q]; rfl
          · rw [q, q2, Int32.sub_self]
            obtain ⟨z, hz1, hz2⟩ := hv.1.keep hk1
            rw [hz2]
            by_cases c0 : z = 0
            · subst c0; rfl
            · have : ¬ nI z ≤ 0 := nI_nle (by omega) (by omega)
              simp [this]
        rw [show fadeW (seaB i wA) i = seaB i wA from by unfold fadeW; rw [hf]; rfl] at eB
        refine Rn.mk (Or.inl ⟨_, rfl, hlt, ?_, nI_1 i⟩)
        rw [eB]
        exact t1
      · rw [if_pos (by simpa using c), T_of10 t1.1 hi8, T_of9 t1.1 hi8]
        simp only [obs]
        by_cases c1 : seaB i wA 26 i = 1
        · rw [if_pos c1]
          by_cases c2 : seaB i wA 12 kk = 0
          · rw [if_pos c2]
            rw [show fadeW (seaB i wA) i = seaB i wA from by unfold fadeW fadeC; rw [hk2, tN_nI (by omega)]; simp [c2]] at eB
            refine Rn.mk (Or.inl ⟨_, rfl, hlt, ?_, nI_1 i⟩)
            rw [eB]
            exact t1
          · rw [if_neg c2, e4]
            by_cases c3 : seaB i wA 12 kk ≤ seaB i wA 0 4 - seaB i wA 25 i
            · rw [if_pos c3, T_lays10 hi8]
              simp only [obs]
              have t2 := t1.tr (Tr.put t1.1 (r := 26) (j := i) hi8 2)
              obtain ⟨τ3, q3, t3⟩ := T_logs t2.1 (nI i) 1 0
              rw [q3]
              rw [show fadeW (seaB i wA) i = tellW (mup (seaB i wA) 26 i 2) (nI i) 1 0 from by unfold fadeW fadeC; rw [hk2, tN_nI (by omega)]; simp [c1, c2, c3]] at eB
              refine Rn.mk (Or.inl ⟨_, rfl, hlt, ?_, nI_1 i⟩)
              rw [eB]
              exact t2.tr t3
            · rw [if_neg c3]
              rw [show fadeW (seaB i wA) i = seaB i wA from by unfold fadeW fadeC; rw [hk2, tN_nI (by omega)]; simp [c3]] at eB
              refine Rn.mk (Or.inl ⟨_, rfl, hlt, ?_, nI_1 i⟩)
              rw [eB]
              exact t1
        · rw [if_neg c1]
          rw [show fadeW (seaB i wA) i = seaB i wA from by unfold fadeW fadeC; simp [c1]] at eB
          refine Rn.mk (Or.inl ⟨_, rfl, hlt, ?_, nI_1 i⟩)
          rw [eB]
          exact t1
    · have : i = nD w := by omega
      subst this
      rw [if_pos (nI_le (Nat.le_refl _) (by omega))]
      exact Rn.mk (Or.inr ⟨_, rfl, t1⟩)
  obtain ⟨τ2, q2, t2⟩ := r2
  rw [q2]
  simp only [obs]
  have hM := wi_seaM hw L s
  rw [show seaB (nD w) wA = seaM L s w from by rw [← eA]; rfl] at t2
  have r3 : Rn (loopO (X7_passes_L242) FU (τ2, (0 : Int32), (0 : Int32))) (fun x => Tr τ x.1 (seaC (nD w) (seaM L s w)) ∧ x.2 = seaK (nD w) (seaM L s w)) := by
    refine loopO_inv (fun i x => Tr τ x.1 (seaC i (seaM L s w)) ∧ x.2.1 = seaK i (seaM L s w) ∧ x.2.2 = nI i) _ (nD w) (FU8 hD.2) (fun i x hi hx => ?_) ⟨t2, rfl, rfl⟩
    obtain ⟨t1, e1, e2⟩ := hx
    obtain ⟨x1, x2, x3⟩ := x
    simp only at t1 e1 e2
    subst e2
    have hv := wi_seaC hM.1 (n := i) (by rw [hM.2.2.2]; exact hi)
    have hs := hM.2.tr hv.2
    unfold X7_passes_L242
    simp only []
    rw [T_n5 t1.1 hv.1, hs.2.2]
    rcases Nat.lt_or_ge i (nD w) with hlt | hge
    · have hi8 : i < 8 := by omega
      have e4 : x1 0 6 = seaC i (seaM L s w) 0 4 := (t1.1 0 4 (by decide)).symm
      rw [if_neg (nI_ge hlt (by omega)), T_isValidNow t1.1 hv.1 hi8]
      simp only [obs, b01_0]
      rw [T_of11 t1.1 hi8, T_of9 t1.1 hi8, T_of4 t1.1 hi8]
      simp only [obs]
      have eC : seaC (i + 1) (seaM L s w) = if payC (seaC i (seaM L s w)) i = true then payW (seaC i (seaM L s w)) i else seaC i (seaM L s w) := rfl
      have eK : seaK (i + 1) (seaM L s w) = seaK i (seaM L s w) + b01 (payC (seaC i (seaM L s w)) i) := rfl
      generalize ew : seaC i (seaM L s w) = v at t1 hv hs e4 eC eK ⊢
      have no : payC v i = false → Rn (some ((Sum.inl (x1, x2, nI i + 1) : (Mm × Int32 × Int32) ⊕ (Mm × Int32)))) (fun o => (∃ s', o = .inl s' ∧ i < nD w ∧ Tr τ s'.1 (seaC (i + 1) (seaM L s w)) ∧ s'.2.1 = seaK (i + 1) (seaM L s w) ∧ s'.2.2 = nI (i + 1)) ∨ ∃ e, o = .inr e ∧ Tr τ e.1 (seaC (nD w) (seaM L s w)) ∧ e.2 = seaK (nD w) (seaM L s w)) := by
        intro hp
        refine Rn.mk (Or.inl ⟨_, rfl, hlt, ?_, ?_, nI_1 i⟩)
        · rw [eC, hp]
          exact t1
        · rw [eK, hp, e1]
          show _ = _ + 0
          rw [Int32.add_zero]
      by_cases c1 : valB v i (stB v 1) = false
      · rw [if_pos c1]
        exact no (by unfold payC; rw [c1]; simp)
      · rw [if_neg c1]
        by_cases c2 : v 15 i = 1
        · rw [if_pos c2]
          exact no (by unfold payC; rw [c2]; simp)
        · rw [if_neg c2, e4]
          by_cases c3 : v 20 i ≤ v 0 4 - v 25 i
          · rw [if_pos c3]
            obtain ⟨τ3, q3, t3⟩ := T_pays t1.1 hv.1 (d := i) (by rw [hs.2.2]; exact hlt)
            rw [q3]
            have hp : payC v i = true := by
              unfold payC
              have : v 15 i = 0 := (hv.1.paid hi8).resolve_right c2
              have c1' : valB v i (stB v 1) = true := by simpa using c1
              simp [this, c1', c3]
            refine Rn.mk (Or.inl ⟨_, rfl, hlt, ?_, ?_, nI_1 i⟩)
            · rw [eC, hp]
              exact t1.tr t3
            · rw [eK, hp, e1]
              rfl
          · rw [if_neg c3]
            exact no (by unfold payC; simp [c3])
    · have : i = nD w := by omega
      subst this
      rw [if_pos (nI_le (Nat.le_refl _) (by omega))]
      exact Rn.mk (Or.inr ⟨_, rfl, t1, e1⟩)
  obtain ⟨x3, q3, t3, e3⟩ := r3
  rw [q3]
  simp only [obs, lesser_s]
  rw [show x3.1 0 6 = _ from (t3.1 0 4 (by decide)).symm, show (6 : Int32) = nI 6 from rfl, stoN (by decide) (by decide)]
  refine Rn.mk ⟨e3, ?_⟩
  exact t3.tr (Tr.put t3.1 (r := 0) (j := 4) (by decide) _)
/-- drawn -/
def drawV (w : Mm) : Int32 :=
  let x := (w 0 8)
  (x.toUInt32 >>> ((16 : Int32).toUInt32 &&& Int32.toUInt32 31)).toInt32 &&& (32767 : Int32)
def drawW (w : Mm) : Mm := mup w 0 8 (((1103515245 : Int32) * (w 0 8)) + (12345 : Int32))
def drawS (w : Mm) : Int32 := if drawW w 0 6 ≤ drawV (drawW w) - drawV (drawW w) / 100 * 100 then 0 else 1
def dseW (L : Nat → (Nat → Int32) → Int32) (w : Mm) : Mm := seaW L (drawS w) (drawW w)
def dseN (L : Nat → (Nat → Int32) → Int32) (w : Mm) : Int32 := seaN L (drawS w) (drawW w)
theorem X2_draw_s (w : Mm) : X2_draw w 100 = some (drawV (drawW w) - drawV (drawW w) / 100 * 100, drawW w) := rfl
theorem wi_drawW (hw : WI w) : WI (drawW w) ∧ sameC w (drawW w) := ⟨hw.mup (by first | decide | exact hr0 (by decide)) (by decide) trivial, sameC_mup (by first | decide | exact hr0 (by decide))⟩
theorem wi_dseW (hw : WI w) (L : Nat → (Nat → Int32) → Int32) : WI (dseW L w) ∧ sameC w (dseW L w) := ⟨(wi_seaW (wi_drawW hw).1 L _).1, (wi_drawW hw).2.tr (wi_seaW (wi_drawW hw).1 L _).2⟩
theorem T_passesD {L : Nat → (Nat → Int32) → Int32} (h : WR w (τ 0)) (hw : WI w) (hL : LR L (τ 0)) : Rn (X7_passes τ 1) (fun x => x.1 = dseN L w ∧ Tr τ x.2 (dseW L w)) := by
  unfold X7_passes X7_draw
  rw [if_neg (by decide), show (10 : Int32) = nI 10 from rfl, stoN (by decide) (by decide)]
  have t1 := Tr.put h (r := 0) (j := 8) (by decide) (((1103515245 : Int32) * (τ 0 10)) + (12345 : Int32))
  have e10 : τ 0 10 = w 0 8 := (h 0 8 (by decide)).symm
  rw [show wX 0 8 = 10 from rfl, e10] at t1
  rw [e10]
  simp only [obs, show dnz (100 : Int32) = some 100 from by decide]
  generalize q1 : mup τ 0 10 (1103515245 * w 0 8 + 12345) = τ1 at t1 ⊢
  have e8 : τ1 0 8 = drawW w 0 6 := (t1.1 0 6 (by decide)).symm
  have e9 : τ1 0 10 = drawW w 0 8 := (t1.1 0 8 (by decide)).symm
  rw [e8, e9]
  have hd := (wi_drawW hw)
  have fin : ∀ s, s = drawS w → Rn (X7_passes_J32 τ1 s) (fun x => x.1 = dseN L w ∧ Tr τ x.2 (dseW L w)) := by
    intro s hs
    obtain ⟨x, q, p1, p2⟩ := T_passes0 (L := L) s t1.1 hd.1 (hL.congr t1.2.1)
    refine ⟨x, q, ?_, ?_⟩
    · rw [p1, hs]; rfl
    · rw [hs] at p2
      exact t1.tr p2
  show Rn (if drawW w 0 6 ≤ drawV (drawW w) - drawV (drawW w) / 100 * 100 then X7_passes_J32 τ1 0 else X7_passes_J32 τ1 1) _
  by_cases c : drawW w 0 6 ≤ drawV (drawW w) - drawV (drawW w) / 100 * 100
  · rw [if_pos c]
    exact fin 0 (by unfold drawS; rw [if_pos c])
  · rw [if_neg c]
    exact fin 1 (by unfold drawS; rw [if_neg c])
theorem T_passesQ {L : Nat → (Nat → Int32) → Int32} (h : WR w (τ 0)) (hw : WI w) (hL : LR L (τ 0)) : Rn (X7_passes τ 0) (fun x => x.1 = seaN L (τ 10 19) w ∧ Tr τ x.2 (seaW L (τ 10 19) w)) := by
  unfold X7_passes
  rw [if_pos rfl]
  exact T_passes0 _ h hw hL
end TW3
/-- the component's drawn season -/
theorem X1_drawn_s {Λ : Nat → Nat → (Nat → Int32) → Int32} {σ : Cs} {k : Nat} (h : WI (cw σ k)) (hΛ : LamOK Λ (cl σ k)) : ∃ f, X1_drawnSeason Λ σ k = some (dseN (lawF Λ (cl σ k)) (cw σ k), cwu (sc3 σ f) k (dseW (lawF Λ (cl σ k)) (cw σ k))) := by
  have hd := (wi_drawW h)
  obtain ⟨f, e1⟩ := X1_aSeason_s (σ := cwu σ k (drawW (cw σ k))) (k := k) (drawS (cw σ k)) (by rw [cw_cwu]; exact hd.1) hΛ
  rw [cw_cwu, cl_cwu, sc3_cwu, cwu_cwu] at e1
  refine ⟨f, ?_⟩
  unfold X1_drawnSeason
  rw [X2_draw_s]
  simp only [obs, cw_cwu]
  by_cases c : drawW (cw σ k) 0 6 ≤ drawV (drawW (cw σ k)) - drawV (drawW (cw σ k)) / 100 * 100
  · rw [if_pos c]
    rw [show drawS (cw σ k) = 0 from by unfold drawS; rw [if_pos c]] at e1
    rw [e1]
    simp only [obs]
    unfold dseN dseW
    rw [show drawS (cw σ k) = 0 from by unfold drawS; rw [if_pos c]]
  · rw [if_neg c]
    rw [show drawS (cw σ k) = 1 from by unfold drawS; rw [if_neg c]] at e1
    rw [e1]
    simp only [obs]
    unfold dseN dseW
    rw [show drawS (cw σ k) = 1 from by unfold drawS; rw [if_neg c]]
