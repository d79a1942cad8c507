/-! PURE: rings of debts -/
def owB (w : Mm) (a b : Nat) : Prop := a ≠ b ∧ 0 < owV w (nI a) (nI b) (-1)
def dS (w : Mm) (S : Nat → Prop) (i : Nat) : Prop := i < nP w ∧ ∃ a, a < nP w ∧ S a ∧ owB w a i
def clo (w : Mm) (p : Nat) : Nat → Nat → Prop
  | 0 => dS w (fun i => i = p)
  | k + 1 => fun i => clo w p k i ∨ dS w (clo w p k) i
theorem dS_mono {w : Mm} {S T : Nat → Prop} (h : ∀ i, S i → T i) {i : Nat} (g : dS w S i) : dS w T i := by
  obtain ⟨g1, a, g2, g3, g4⟩ := g
  exact ⟨g1, a, g2, h a g3, g4⟩
theorem dS_congr {w : Mm} {S T : Nat → Prop} (h : ∀ i, S i ↔ T i) {i : Nat} : dS w S i ↔ dS w T i := ⟨dS_mono fun i => (h i).mp, dS_mono fun i => (h i).mpr⟩
theorem clo_0 {w : Mm} {p : Nat} : ∀ k i, clo w p 0 i → clo w p k i := by
  intro k
  induction k with
  | zero => exact fun _ h => h
  | succ k ih => exact fun i h => Or.inl (ih i h)
theorem clo_lt {w : Mm} {p : Nat} : ∀ k i, clo w p k i → i < nP w := by
  intro k
  induction k with
  | zero => exact fun _ h => h.1
  | succ k ih =>
    intro i h
    rcases h with h | h
    · exact ih i h
    · exact h.1
noncomputable def cntP (P : Nat → Prop) : Nat → Nat
  | 0 => 0
  | n + 1 => cntP P n + @ite _ (P n) (Classical.propDecidable _) 1 0
theorem cntP_le {P : Nat → Prop} : ∀ n, cntP P n ≤ n := by
  intro n
  induction n with
  | zero => exact Nat.le_refl 0
  | succ n ih =>
    show cntP P n + _ ≤ n + 1
    split <;> omega
theorem cntP_mono {P Q : Nat → Prop} (h : ∀ i, P i → Q i) : ∀ n, cntP P n ≤ cntP Q n := by
  intro n
  induction n with
  | zero => exact Nat.le_refl 0
  | succ n ih =>
    show cntP P n + _ ≤ cntP Q n + _
    by_cases c : P n
    · rw [if_pos c, if_pos (h n c)]
      omega
    · rw [if_neg c]
      omega
theorem cntP_lt {P Q : Nat → Prop} (h : ∀ i, P i → Q i) {n j : Nat} (hj : j < n) (hq : Q j) (hp : ¬ P j) : cntP P n < cntP Q n := by
  induction n with
  | zero => omega
  | succ n ih =>
    show cntP P n + _ < cntP Q n + _
    by_cases e : j = n
    · subst e
      rw [if_neg hp, if_pos hq]
      have := cntP_mono h j
      omega
    · have := ih (by omega)
      by_cases c : P n
      · rw [if_pos c, if_pos (h n c)]
        omega
      · rw [if_neg c]
        omega
theorem clo_stop {w : Mm} {p k : Nat} (h : ∀ i, clo w p (k + 1) i → clo w p k i) : ∀ m i, clo w p (k + m) i → clo w p k i := by
  intro m
  induction m with
  | zero => exact fun _ g => g
  | succ m ih =>
    intro i g
    rcases g with g | g
    · exact ih i g
    · exact h i (Or.inr (dS_mono ih g))
theorem clo_56 {w : Mm} {p : Nat} (hP : nP w ≤ 6) {i : Nat} : clo w p 6 i ↔ clo w p 5 i := by
  refine ⟨fun g => ?_, Or.inl⟩
  refine Classical.byContradiction fun hn => ?_
  have strict : ∀ k, k ≤ 5 → cntP (clo w p k) 6 < cntP (clo w p (k + 1)) 6 := by
    intro k hk
    refine Classical.byContradiction fun hc => ?_
    have st : ∀ j, clo w p (k + 1) j → clo w p k j := by
      intro j hj
      refine Classical.byContradiction fun hd => hc ?_
      exact cntP_lt (fun i hi => Or.inl hi) (show j < 6 by have := clo_lt _ _ hj; omega) hj hd
    have e6 : k + (6 - k) = 6 := by omega
    have g5 : clo w p k i := clo_stop st (6 - k) i (by rw [e6]; exact g)
    have up : ∀ m, clo w p (k + m) i := by
      intro m
      induction m with
      | zero => exact g5
      | succ m ih => exact Or.inl ih
    have e5 : k + (5 - k) = 5 := by omega
    exact hn (by rw [← e5]; exact up (5 - k))
  have one : 1 ≤ cntP (clo w p 0) 6 := by
    refine Classical.byContradiction fun hc => ?_
    have z : ∀ j, ¬ clo w p 0 j := by
      intro j hj
      have : cntP (fun _ => False) 6 < cntP (clo w p 0) 6 := cntP_lt (fun _ q => q.elim) (show j < 6 by have := clo_lt _ _ hj; omega) hj (fun q => q)
      omega
    have all : ∀ k j, ¬ clo w p k j := by
      intro k
      induction k with
      | zero => exact z
      | succ k ih =>
        intro j hj
        rcases hj with hj | ⟨-, a, -, ha, -⟩
        · exact ih j hj
        · exact ih a ha
    exact all 6 i g
  have s0 : cntP (clo w p 0) 6 < cntP (clo w p 1) 6 := strict 0 (by decide)
  have s1 : cntP (clo w p 1) 6 < cntP (clo w p 2) 6 := strict 1 (by decide)
  have s2 : cntP (clo w p 2) 6 < cntP (clo w p 3) 6 := strict 2 (by decide)
  have s3 : cntP (clo w p 3) 6 < cntP (clo w p 4) 6 := strict 3 (by decide)
  have s4 : cntP (clo w p 4) 6 < cntP (clo w p 5) 6 := strict 4 (by decide)
  have s5 : cntP (clo w p 5) 6 < cntP (clo w p 6) 6 := strict 5 (by decide)
  have s6 := cntP_le (P := clo w p 6) 6
  omega
/-- sets by bits -/
def bs (x : Int32) (i : Nat) : Prop := bt x i = true
theorem m0_pos {x : Int32} : m0 x ≤ 0 ↔ ¬ 0 < x := by
  unfold m0
  by_cases c : 0 < x
  · rw [if_pos c]
    exact ⟨fun h => absurd c (Int32.not_lt.mpr h), fun h => absurd c h⟩
  · rw [if_neg c]
    exact ⟨fun _ => c, fun _ => by decide⟩
theorem bs_or {x y : Int32} {i : Nat} : bs (x ||| y) i ↔ bs x i ∨ bs y i := by
  unfold bs
  rw [b_or, Bool.or_eq_true]
theorem bs_one {n i : Nat} (hn : n < 32) (hi : i < 32) : bs ((1 : Int32) <<< (nI n &&& 31)) i ↔ i = n := by
  unfold bs
  rw [bt_one n hn hi]
  simp
theorem bs_0 {i : Nat} : ¬ bs 0 i := by
  unfold bs
  rw [b_0]
  decide
section AK
variable {Λ : Nat → Nat → (Nat → Int32) → Int32} {Λn : Nat → Int32} {σ : Cs} {τ : Mm}
theorem X1_debtorsOf_s (h : WI (cw σ 0)) (set : Int32) : Rn (X1_debtorsOf σ set) (fun x => ∀ i, i < 31 → (bs x i ↔ dS (cw σ 0) (bs set) i)) := by
  obtain ⟨e, hP⟩ := h.P
  unfold X1_debtorsOf
  have key : Rn (loopO (X1_debtorsOf_L4 σ set) FU (0, 0)) (fun x => ∀ i, i < 31 → (bs x i ↔ dS (cw σ 0) (bs set) i)) := by
    refine loopO_inv (fun n (s : Int32 × Int32) => s.2 = nI n ∧ ∀ i, i < 31 → (bs s.1 i ↔ i < nP (cw σ 0) ∧ ∃ a, a < n ∧ bs set a ∧ owB (cw σ 0) a i)) _ (nP (cw σ 0)) (FU8 (by omega)) (fun n s hn hs => ?_) ⟨rfl, fun i hi => ⟨fun q => absurd q bs_0, fun ⟨_, a, q, _⟩ => absurd q (by omega)⟩⟩
    obtain ⟨acc, x⟩ := s
    obtain ⟨hx, hb⟩ := hs
    simp only at hx hb
    subst hx
    unfold X1_debtorsOf_L4
    simp only []
    rw [e]
    rcases Nat.lt_or_ge n (nP (cw σ 0)) with hlt | hge
    · rw [if_neg (nI_ge hlt (by omega))]
      have inner : Rn (loopO (X1_debtorsOf_L18 σ set (nI n)) FU (acc, 0)) (fun x => ∀ i, i < 31 → (bs x i ↔ bs acc i ∨ (i < nP (cw σ 0) ∧ bs set n ∧ owB (cw σ 0) n i))) := by
        refine loopO_inv (fun m (s : Int32 × Int32) => s.2 = nI m ∧ ∀ i, i < 31 → (bs s.1 i ↔ bs acc i ∨ (i < m ∧ bs set n ∧ owB (cw σ 0) n i))) _ (nP (cw σ 0)) (FU8 (by omega)) (fun m s hm hs => ?_) ⟨rfl, fun i hi => ⟨fun q => Or.inl q, fun q => q.elim id (fun q => absurd q.1 (by omega))⟩⟩
        obtain ⟨ac, y⟩ := s
        obtain ⟨hy, hc⟩ := hs
        simp only at hy hc
        subst hy
        unfold X1_debtorsOf_L18
        simp only []
        rw [e]
        rcases Nat.lt_or_ge m (nP (cw σ 0)) with mlt | mge
        · rw [if_neg (nI_ge mlt (by omega)), X1_owesNow_s h, has_s, nI_1]
          simp only [obs]
          have skip : ¬ (bs set n ∧ owB (cw σ 0) n m) → ∀ i, i < 31 → (bs (ac ||| 0) i ↔ bs acc i ∨ (i < m + 1 ∧ bs set n ∧ owB (cw σ 0) n i)) := by
            intro hno i hi
            rw [Int32.or_zero, hc i hi]
            constructor
            · rintro (q | ⟨q1, q2⟩)
              · exact Or.inl q
              · exact Or.inr ⟨by omega, q2⟩
            · rintro (q | ⟨q1, q2⟩)
              · exact Or.inl q
              · by_cases ei : i = m
                · subst ei; exact absurd q2 hno
                · exact Or.inr ⟨by omega, q2⟩
          by_cases c1 : nI n = nI m
          · rw [if_pos c1]
            have nm : n = m := (nI_eq (by omega) (by omega)).mp c1
            exact Rn.mk (Or.inl ⟨_, rfl, mlt, rfl, skip (fun q => q.2.1 nm)⟩)
          · rw [if_neg c1]
            by_cases c2 : hasB set (nI n) = true
            · rw [c2, if_neg b01T]
              by_cases c3 : m0 (owV (cw σ 0) (nI n) (nI m) (-1)) ≤ 0
              · rw [if_pos c3]
                exact Rn.mk (Or.inl ⟨_, rfl, mlt, rfl, skip (fun q => (m0_pos.mp c3) q.2.2)⟩)
              · rw [if_neg c3]
                have ow : owB (cw σ 0) n m := ⟨fun q => c1 (by rw [q]), Classical.byContradiction fun q => c3 (m0_pos.mpr q)⟩
                have bn : bs set n := by rw [hasB_bt _ (by omega)] at c2; exact c2
                refine Rn.mk (Or.inl ⟨_, rfl, mlt, rfl, fun i hi => ?_⟩)
                show bs (ac ||| _) i ↔ _
                rw [bs_or, hc i hi, bs_one (by omega) (by omega)]
                constructor
                · rintro ((q | ⟨q1, q2⟩) | q)
                  · exact Or.inl q
                  · exact Or.inr ⟨by omega, q2⟩
                  · subst q; exact Or.inr ⟨by omega, bn, ow⟩
                · rintro (q | ⟨q1, q2⟩)
                  · exact Or.inl (Or.inl q)
                  · by_cases ei : i = m
                    · exact Or.inr ei
                    · exact Or.inl (Or.inr ⟨by omega, q2⟩)
            · rw [nBf c2, if_pos b01F]
              have bn : ¬ bs set n := by rw [hasB_bt _ (by omega)] at c2; exact c2
              exact Rn.mk (Or.inl ⟨_, rfl, mlt, rfl, skip (fun q => bn q.1)⟩)
        · have : m = nP (cw σ 0) := by omega
          subst this
          rw [if_pos (nI_le (Nat.le_refl _) (by omega))]
          exact Rn.mk (Or.inr ⟨_, rfl, hc⟩)
      obtain ⟨x, e1, hx⟩ := inner
      rw [e1]
      simp only [obs, nI_1]
      refine Rn.mk (Or.inl ⟨_, rfl, hlt, rfl, fun i hi => ?_⟩)
      rw [hx i hi, hb i hi]
      constructor
      · rintro (⟨q1, a, q2, q3⟩ | ⟨q1, q2, q3⟩)
        · exact ⟨q1, a, by omega, q3⟩
        · exact ⟨q1, n, by omega, q2, q3⟩
      · rintro ⟨q1, a, q2, q3, q4⟩
        by_cases ea : a = n
        · subst ea; exact Or.inr ⟨q1, q3, q4⟩
        · exact Or.inl ⟨q1, a, by omega, q3, q4⟩
    · have : n = nP (cw σ 0) := by omega
      subst this
      rw [if_pos (nI_le (Nat.le_refl _) (by omega))]
      exact Rn.mk (Or.inr ⟨_, rfl, hb⟩)
  obtain ⟨x, e1, hx⟩ := key
  exact Rn.of (by rw [e1, obs]) hx
theorem T_ring45 {w : Mm} (h : WI w) (hr : WR w (τ 0)) (c1 set c4 come : Int32) : Rn (loopO (X7_ring_L45 τ c1 set c4) FU (come, 0)) (fun x => ∀ i, i < 31 → (bs x i ↔ bs come i ∨ dS w (bs set) i)) := by
  obtain ⟨e, hP⟩ := h.P
  have e3 : τ 0 3 = nI (nP w) := (hr 0 1 (by decide)).symm.trans e
  refine loopO_inv (fun n (s : Int32 × Int32) => s.2 = nI n ∧ ∀ i, i < 31 → (bs s.1 i ↔ bs come i ∨ (i < nP w ∧ ∃ a, a < n ∧ bs set a ∧ owB w a i))) _ (nP w) (FU8 (by omega)) (fun n s hn hs => ?_) ⟨rfl, fun i hi => ⟨fun q => Or.inl q, fun q => q.elim id (fun ⟨_, a, q, _⟩ => absurd q (by omega))⟩⟩
  obtain ⟨acc, x⟩ := s
  obtain ⟨hx, hb⟩ := hs
  simp only at hx hb
  subst hx
  unfold X7_ring_L45
  simp only []
  rw [e3]
  rcases Nat.lt_or_ge n (nP w) with hlt | hge
  · rw [if_neg (nI_ge hlt (by omega))]
    have inner : Rn (loopO (X7_ring_L59 τ c1 set c4 (nI n)) FU (acc, 0)) (fun x => ∀ i, i < 31 → (bs x i ↔ bs acc i ∨ (i < nP w ∧ bs set n ∧ owB w n i))) := by
      refine loopO_inv (fun m (s : Int32 × Int32) => s.2 = nI m ∧ ∀ i, i < 31 → (bs s.1 i ↔ bs acc i ∨ (i < m ∧ bs set n ∧ owB w n i))) _ (nP w) (FU8 (by omega)) (fun m s hm hs => ?_) ⟨rfl, fun i hi => ⟨fun q => Or.inl q, fun q => q.elim id (fun q => absurd q.1 (by omega))⟩⟩
      obtain ⟨ac, y⟩ := s
      obtain ⟨hy, hc⟩ := hs
      simp only at hy hc
      subst hy
      unfold X7_ring_L59
      simp only []
      rw [e3]
      rcases Nat.lt_or_ge m (nP w) with mlt | mge
      · rw [if_neg (nI_ge mlt (by omega)), T_owesBy h hr, isOf_s, nI_1]
        simp only [obs]
        have skip : ¬ (bs set n ∧ owB w n m) → ∀ i, i < 31 → (bs ac i ↔ bs acc i ∨ (i < m + 1 ∧ bs set n ∧ owB w n i)) := by
          intro hno i hi
          rw [hc i hi]
          constructor
          · rintro (q | ⟨q1, q2⟩)
            · exact Or.inl q
            · exact Or.inr ⟨by omega, q2⟩
          · rintro (q | ⟨q1, q2⟩)
            · exact Or.inl q
            · by_cases ei : i = m
              · subst ei; exact absurd q2 hno
              · exact Or.inr ⟨by omega, q2⟩
        by_cases c2 : hasB set (nI n) = true
        · rw [c2, if_neg b01T]
          by_cases c1 : nI m = nI n
          · rw [if_pos c1]
            have nm : n = m := ((nI_eq (by omega) (by omega)).mp c1).symm
            exact Rn.mk (Or.inl ⟨_, rfl, mlt, rfl, skip (fun q => q.2.1 nm)⟩)
          · rw [if_neg c1]
            by_cases c3 : m0 (owV w (nI n) (nI m) (-1)) ≤ 0
            · rw [if_pos c3]
              exact Rn.mk (Or.inl ⟨_, rfl, mlt, rfl, skip (fun q => (m0_pos.mp c3) q.2.2)⟩)
            · rw [if_neg c3]
              have ow : owB w n m := ⟨fun q => c1 (by rw [q]), Classical.byContradiction fun q => c3 (m0_pos.mpr q)⟩
              have bn : bs set n := by rw [hasB_bt _ (by omega)] at c2; exact c2
              refine Rn.mk (Or.inl ⟨_, rfl, mlt, rfl, fun i hi => ?_⟩)
              show bs (ac ||| _) i ↔ _
              rw [bs_or, hc i hi, bs_one (by omega) (by omega)]
              constructor
              · rintro ((q | ⟨q1, q2⟩) | q)
                · exact Or.inl q
                · exact Or.inr ⟨by omega, q2⟩
                · subst q; exact Or.inr ⟨by omega, bn, ow⟩
              · rintro (q | ⟨q1, q2⟩)
                · exact Or.inl (Or.inl q)
                · by_cases ei : i = m
                  · exact Or.inr ei
                  · exact Or.inl (Or.inr ⟨by omega, q2⟩)
        · rw [nBf c2, if_pos b01F]
          have bn : ¬ bs set n := by rw [hasB_bt _ (by omega)] at c2; exact c2
          exact Rn.mk (Or.inl ⟨_, rfl, mlt, rfl, skip (fun q => bn q.1)⟩)
      · have : m = nP w := by omega
        subst this
        rw [if_pos (nI_le (Nat.le_refl _) (by omega))]
        exact Rn.mk (Or.inr ⟨_, rfl, hc⟩)
    obtain ⟨x, e1, hx⟩ := inner
    rw [e1]
    simp only [obs, nI_1]
    refine Rn.mk (Or.inl ⟨_, rfl, hlt, rfl, fun i hi => ?_⟩)
    rw [hx i hi, hb i hi]
    constructor
    · rintro ((q | ⟨q1, a, q2, q3⟩) | ⟨q1, q2, q3⟩)
      · exact Or.inl q
      · exact Or.inr ⟨q1, a, by omega, q3⟩
      · exact Or.inr ⟨q1, n, by omega, q2, q3⟩
    · rintro (q | ⟨q1, a, q2, q3, q4⟩)
      · exact Or.inl (Or.inl q)
      · by_cases ea : a = n
        · subst ea; exact Or.inr ⟨q1, q3, q4⟩
        · exact Or.inl (Or.inr ⟨q1, a, by omega, q3, q4⟩)
  · have : n = nP w := by omega
    subst this
    rw [if_pos (nI_le (Nat.le_refl _) (by omega))]
    exact Rn.mk (Or.inr ⟨_, rfl, hb⟩)
theorem dS_31 {w : Mm} (hP : nP w ≤ 6) {S T : Nat → Prop} (h : ∀ i, i < 31 → (S i ↔ T i)) {i : Nat} : dS w S i ↔ dS w T i := by
  constructor
  · rintro ⟨q1, a, q2, q3, q4⟩
    exact ⟨q1, a, q2, (h a (by omega)).mp q3, q4⟩
  · rintro ⟨q1, a, q2, q3, q4⟩
    exact ⟨q1, a, q2, (h a (by omega)).mpr q3, q4⟩
theorem S_ring (h : Sys Λ Λn σ τ) (a : Int32) : CallX Λ Λn (cdx [0]) (X1_ring σ a) (X7_ring τ a) := by
  unfold X1_ring X7_ring
  rw [X1_partyAt_s, T_isParty h.2.1, obs, obs]
  by_cases c : inB a 0 (cw σ 0 0 1 - 1) = true
  · obtain ⟨p, hp, rfl⟩ := inB_P h.1 c
    have hP := h.1.P.2
    have w0 := h.wr0 0
    unfold X7_ring_J14
    rw [if_pos c, c, if_neg b01T, obs, if_pos t00, obs]
    simp only [Sum.elim_inl]
    have fin : ∀ r : Int32, CallX Λ Λn (cdx [0]) (some (.inl (r, σ))) (some (r, mup τ 10 0 0)) := fun r => .ok0 h rfl rfl
    generalize mup τ 10 0 0 = τ1 at w0 fin
    obtain ⟨x0, e1, hx0⟩ := X1_debtorsOf_s h.1 ((1 : Int32) <<< (nI p &&& 31))
    have hx0' : ∀ i, i < 31 → (bs x0 i ↔ clo (cw σ 0) p 0 i) := fun i hi => (hx0 i hi).trans (dS_31 hP (fun j hj => bs_one (by omega) (by omega)))
    have k1 : Rn (loopO (X1_ring_L15 σ (nI p)) FU (x0, 0)) (fun x => ∀ i, i < 31 → (bs x i ↔ clo (cw σ 0) p 6 i)) := by
      refine loopO_inv (fun n (s : Int32 × Int32) => s.2 = nI n ∧ ∀ i, i < 31 → (bs s.1 i ↔ clo (cw σ 0) p n i)) _ 6 (by decide) (fun n s hn hs => ?_) ⟨rfl, hx0'⟩
      obtain ⟨acc, x⟩ := s
      obtain ⟨hx, hb⟩ := hs
      simp only at hx hb
      subst hx
      unfold X1_ring_L15
      simp only []
      by_cases c6 : n = 6
      · subst c6
        rw [if_pos (by decide)]
        exact Rn.mk (Or.inr ⟨_, rfl, hb⟩)
      · rw [if_neg (show ¬ (6 : Int32) ≤ nI n from nI_ge (b := 6) (by omega) (by decide))]
        obtain ⟨y, e2, hy⟩ := X1_debtorsOf_s h.1 acc
        rw [e2]
        simp only [obs, nI_1]
        refine Rn.mk (Or.inl ⟨_, rfl, by omega, rfl, fun i hi => ?_⟩)
        show bs (acc ||| y) i ↔ _
        rw [bs_or, hb i hi, hy i hi, dS_31 hP hb]
        exact Iff.rfl
    have k7 : Rn (loopO (X7_ring_L35 τ1 (nI p)) FU ((1 : Int32) <<< (nI p &&& 31), 0, 0)) (fun x => ∀ i, i < 31 → (bs x i ↔ clo (cw σ 0) p 5 i)) := by
      refine loopO_inv (fun n (s : Int32 × Int32 × Int32) => s.2.2 = nI n ∧ (n = 0 → s.2.1 = 0 ∧ s.1 = (1 : Int32) <<< (nI p &&& 31)) ∧ (∀ m, n = m + 1 → (∀ i, i < 31 → (bs s.2.1 i ↔ clo (cw σ 0) p m i)) ∧ ∀ i, i < 31 → (bs s.1 i ↔ i = p ∨ clo (cw σ 0) p m i))) _ 6 (by decide) (fun n s hn hs => ?_) ⟨rfl, fun _ => ⟨rfl, rfl⟩, fun m hm => absurd hm (by omega)⟩
      obtain ⟨set, come, x⟩ := s
      obtain ⟨hx, hz, hb⟩ := hs
      simp only at hx hz hb
      subst hx
      unfold X7_ring_L35
      simp only []
      by_cases c6 : n = 6
      · subst c6
        rw [if_pos (by decide)]
        exact Rn.mk (Or.inr ⟨_, rfl, (hb 5 rfl).1⟩)
      · rw [if_neg (show ¬ (6 : Int32) ≤ nI n from nI_ge (b := 6) (by omega) (by decide))]
        obtain ⟨y, e2, hy⟩ := T_ring45 h.1 w0 (nI p) set (nI n) come
        rw [e2]
        simp only [obs, nI_1]
        have new : ∀ i, i < 31 → (bs y i ↔ clo (cw σ 0) p n i) := by
          intro i hi
          rw [hy i hi]
          cases n with
          | zero =>
            obtain ⟨q1, q2⟩ := hz rfl
            rw [q1, q2]
            constructor
            · rintro (q | q)
              · exact absurd q bs_0
              · exact (dS_31 hP (fun j hj => bs_one (by omega) (by omega))).mp q
            · exact fun q => Or.inr ((dS_31 hP (fun j hj => bs_one (by omega) (by omega))).mpr q)
          | succ m =>
            obtain ⟨q1, q2⟩ := hb m rfl
            rw [q1 i hi, dS_31 hP q2]
            constructor
            · rintro (q | ⟨g1, b, g2, g3 | g3, g4⟩)
              · exact Or.inl q
              · exact Or.inl (clo_0 m i ⟨g1, b, g2, g3, g4⟩)
              · exact Or.inr ⟨g1, b, g2, g3, g4⟩
            · rintro (q | q)
              · exact Or.inl q
              · exact Or.inr (dS_mono (fun j hj => Or.inr hj) q)
        refine Rn.mk (Or.inl ⟨_, rfl, by omega, rfl, fun q => absurd q (by omega), fun m hm => ?_⟩)
        have em : m = n := by omega
        subst em
        refine ⟨new, fun i hi => ?_⟩
        show bs (set ||| y) i ↔ _
        rw [bs_or, new i hi]
        cases m with
        | zero =>
          obtain ⟨q1, q2⟩ := hz rfl
          rw [q2, bs_one (by omega) (by omega)]
        | succ m =>
          obtain ⟨q1, q2⟩ := hb m rfl
          rw [q2 i hi]
          constructor
          · rintro ((q | q) | q)
            · exact Or.inl q
            · exact Or.inr (Or.inl q)
            · exact Or.inr q
          · rintro (q | q)
            · exact Or.inl (Or.inl q)
            · exact Or.inr q
    obtain ⟨x, e2, hx⟩ := k1
    obtain ⟨y, e3, hy⟩ := k7
    rw [e1, obs, e2, e3, obs, obs, has_s, isOf_s]
    have eq : hasB x (nI p) = hasB y (nI p) := by
      rw [hasB_bt _ (by omega), hasB_bt _ (by omega), Bool.eq_iff_iff]
      exact (hx p (by omega)).trans ((clo_56 hP).trans (hy p (by omega)).symm)
    rw [eq, obs, obs, zb_b01, obs, obs]
    exact fin _
  · unfold X7_ring_J14
    rw [if_neg c, nBf c, if_pos b01F, obs, if_neg (t01 (by decide))]
    simp only [Sum.elim_inr]
    exact .er0 h rfl (by decide) rfl rfl
end AK
