/-! PURE: jars, part 2 -/
theorem mup_mup {τ : Mm} {r j : Nat} {x y : Int32} : mup (mup τ r j x) r j y = mup τ r j y := by
  funext a b
  by_cases ha : a = r
  · subst ha
    by_cases hb : b = j
    · subst hb
      rw [mup_s, mup_s]
    · rw [mup_j hb, mup_j hb, mup_j hb]
  · rw [mup_r ha, mup_r ha, mup_r ha]
theorem cnt_N {f : Nat → Bool} : ∀ n, n < 1000 → ∃ c, c ≤ n ∧ sumI n (fun p => b01 (f p)) = nI c := by
  intro n
  induction n with
  | zero => exact fun _ => ⟨0, Nat.le_refl 0, rfl⟩
  | succ n ih =>
    intro hn
    obtain ⟨c, h1, h2⟩ := ih (by omega)
    show ∃ d, d ≤ n + 1 ∧ sumI n (fun p => b01 (f p)) + b01 (f n) = nI d
    rw [h2]
    cases f n with
    | true => exact ⟨c + 1, by omega, nI_1 c⟩
    | false => exact ⟨c, by omega, Int32.add_zero _⟩
def inkO (f : Nat → Bool) : Nat → Int32
  | 0 => 0
  | n + 1 => inkO f n ||| (if f n = true then (1 : Int32) <<< (nI (n / 21) &&& 31) else 0)
/-- the reference has heard -/
def hrd (σ : Cs) (τ τ' : Mm) (ch : Nat → Nat) (m n : Nat) : Prop := (∀ r, r ≠ 6 → r ≠ 7 → τ' r = τ r) ∧ ∀ p, p < n → τ' 7 p = nI (upP σ p) ∧ τ' 6 p = b01 (fiP σ ch p m)
section AN
variable {Λ : Nat → Nat → (Nat → Int32) → Int32} {Λn : Nat → Int32} {σ σ' : Cs} {τ τ' : Mm} {ch : Nat → Nat} {l m : Nat}
theorem keep_e {w : Mm} (h : WI w) {p : Nat} (hp : p < 21 * nK w) : ∃ k, k ≤ 99 ∧ w 12 (p / 21) = nI k := h.keep (Nat.div_lt_of_lt_mul hp)
theorem isRead1 (h : WI (cw σ 0)) (hr : WR (cw σ 0) (τ 0)) (j : jarS σ σ' (21 * nK (cw σ 0))) {p t : Nat} (hp : p < 21 * nK (cw σ 0)) (ht : t < 256) : X6_isRead σ' (nI p) (nI t) = some (b01 (rdP σ p t)) := by
  have hK := h.K.2
  obtain ⟨j1, j2⟩ := j.2 p hp
  obtain ⟨-, -, u3⟩ := up_P (σ := σ) h rfl hr hp
  obtain ⟨k, hk, ek⟩ := keep_e h hp
  unfold X6_isRead rdP
  rw [ldN (by omega) (by decide), obs, ldN (by omega) (by decide), j1, j2, obs, ek, tN_nI (by omega)]
  by_cases c : upP σ p ≤ t
  · rw [if_neg (nI_nlt c (by omega)), decide_eq_true c, Bool.true_and]
    by_cases c2 : nI k = 0
    · rw [if_pos c2, decide_eq_true c2, Bool.true_or, if_neg (show ¬ (100000000 : Int32) ≤ nI t from nI_ge (b := 100000000) (by omega) (by decide))]
      rfl
    · rw [if_neg c2, decide_eq_false c2, Bool.false_or, nI_add]
      by_cases c3 : t < upP σ p + k
      · rw [if_neg (nI_ge c3 (by omega)), decide_eq_true c3]
        rfl
      · rw [if_pos (nI_le (by omega) (by omega)), decide_eq_false c3]
        rfl
  · rw [if_pos (nI_lt (by omega) (by omega)), decide_eq_false c]
    rfl
theorem isRead7 (h : WI (cw σ 0)) (hr : WR (cw σ 0) (τ 0)) {p t : Nat} (hp : p < 21 * nK (cw σ 0)) (ht : t < 256) (e7 : τ 7 p = nI (upP σ p)) : X7_isRead τ (nI p) (nI t) = some (b01 (rdP σ p t)) := by
  have hK := h.K.2
  have hi : p / 21 < nK (cw σ 0) := Nat.div_lt_of_lt_mul hp
  obtain ⟨-, -, u3⟩ := up_P (σ := σ) h rfl hr hp
  obtain ⟨k, hk, ek⟩ := keep_e h hp
  unfold X7_isRead rdP
  rw [(p21 (p := p) (by omega)).1, T_ink1 hr (by omega), obs, ldN (by omega) (by decide), obs, e7, obs, ek, tN_nI (by omega)]
  by_cases c : upP σ p ≤ t
  · rw [if_neg (nI_nlt c (by omega)), decide_eq_true c, Bool.true_and]
    by_cases c2 : nI k = 0
    · rw [if_pos c2, decide_eq_true c2]
      rfl
    · rw [if_neg c2, decide_eq_false c2, Bool.false_or, nI_add]
      by_cases c3 : t < upP σ p + k
      · rw [if_neg (nI_ge c3 (by omega)), decide_eq_true c3]
        rfl
      · rw [if_pos (nI_le (by omega) (by omega)), decide_eq_false c3]
        rfl
  · rw [if_pos (nI_lt (by omega) (by omega)), decide_eq_false c]
    rfl
theorem fits1 (h : WI (cw σ 0)) (hr : WR (cw σ 0) (τ 0)) (j : jarS σ σ' (21 * nK (cw σ 0))) (hm : m ≤ 20) (ha : allJ ch (2 * m)) (e2 : co σ' 1 2 = nI (2 * m)) (ht : ∀ k, k < 400 → ch k < 256 ∧ co σ' 2 k = sb (ch k)) {p : Nat} (hp : p < 21 * nK (cw σ 0)) : X6_fits σ' (nI p) = some (b01 (fiP σ ch p m)) := by
  unfold X6_fits
  have key : Rn (loopO (X6_fits_L10 σ' (nI p)) FU 0) (fun e => (e = .inl () ∧ fiP σ ch p m = false) ∨ (e = .inr () ∧ fiP σ ch p m = true)) := by
    refine loopO_inv (fun i (s : Int32) => s = nI (2 * i) ∧ fiP σ ch p i = true) _ m (by unfold FU; omega) (fun i s hi hs => ?_) ⟨rfl, rfl⟩
    obtain ⟨rfl, hf⟩ := hs
    unfold X6_fits_L10
    rw [e2]
    rcases Nat.lt_or_ge i m with hlt | hge
    · obtain ⟨a1, a2⟩ := ht (2 * i) (by omega)
      obtain ⟨a3, a4⟩ := ht (2 * i + 1) (by omega)
      have g1 : ch (2 * i) < 61 := by
        have := ha (2 * i) (by omega)
        unfold gdJ at this
        rw [if_pos (by omega)] at this
        exact this
      have e1 : fiP σ ch p (i + 1) = (fiP σ ch p i && (rdP σ p (ch (2 * i)) == decide (ch (2 * i + 1) = 1))) := rfl
      rw [hf, Bool.true_and] at e1
      have s1 : (sb (ch (2 * i + 1)) = 1) ↔ ch (2 * i + 1) = 1 := (sb_all _ a3).1 1 (by decide)
      rw [if_neg (nI_ge (by omega) (by omega)), ldN (by omega) (by decide), obs, a2, sb_lo (by omega), isRead1 h hr j hp (by omega), obs, nI_1, ldN (by omega) (by decide), obs, a4, show nI (2 * i) + 2 = nI (2 * (i + 1)) from nI_add (2 * i) 2]
      simp only [obs]
      by_cases c : ch (2 * i + 1) = 1
      · rw [if_pos (s1.mpr c)]
        rw [decide_eq_true c] at e1
        cases q : rdP σ p (ch (2 * i)) with
        | true =>
          rw [q] at e1
          rw [if_pos (show b01 true = 1 from rfl)]
          exact Rn.mk (Or.inl ⟨_, rfl, hlt, rfl, e1⟩)
        | false =>
          rw [q] at e1
          rw [if_neg (by decide)]
          exact Rn.mk (Or.inr ⟨_, rfl, Or.inl ⟨rfl, fiP_mono e1 (by omega)⟩⟩)
      · rw [if_neg (fun g => c (s1.mp g))]
        rw [decide_eq_false c] at e1
        cases q : rdP σ p (ch (2 * i)) with
        | true =>
          rw [q] at e1
          rw [if_neg b01T]
          exact Rn.mk (Or.inr ⟨_, rfl, Or.inl ⟨rfl, fiP_mono e1 (by omega)⟩⟩)
        | false =>
          rw [q] at e1
          rw [if_pos b01F]
          exact Rn.mk (Or.inl ⟨_, rfl, hlt, rfl, e1⟩)
    · have : i = m := by omega
      subst this
      rw [if_pos (nI_le (Nat.le_refl _) (by omega))]
      exact Rn.mk (Or.inr ⟨_, rfl, Or.inr ⟨rfl, hf⟩⟩)
  obtain ⟨e, e1, ⟨rfl, e3⟩ | ⟨rfl, e3⟩⟩ := key
  · rw [e1, obs, e3]
    rfl
  · rw [e1, obs, e3]
    rfl
theorem heard129 (h : WI (cw σ 0)) (hr : WR (cw σ 0) (τ 0)) (hm : m ≤ 20) (ha : allJ ch (2 * m)) (ht : ∀ k, k < 400 → ch k < 256 ∧ τ 4 k = nI (ch k)) {p : Nat} (hp : p < 21 * nK (cw σ 0)) (e7 : τ 7 p = nI (upP σ p)) {c3 : Int32} : loopO (X7_heard_L129 (nI (2 * m)) c3 (nI p)) FU (mup τ 6 p 1, 0) = some (mup τ 6 p (b01 (fiP σ ch p m))) := by
  have hK := h.K.2
  have key : Rn (loopO (X7_heard_L129 (nI (2 * m)) c3 (nI p)) FU (mup τ 6 p 1, 0)) (fun e => e = mup τ 6 p (b01 (fiP σ ch p m))) := by
    refine loopO_inv (fun i (s : Mm × Int32) => s.2 = nI (2 * i) ∧ s.1 = mup τ 6 p (b01 (fiP σ ch p i))) _ m (by unfold FU; omega) (fun i s hi hs => ?_) ⟨rfl, rfl⟩
    obtain ⟨s1, s2⟩ := s
    obtain ⟨hx, hf⟩ := hs
    simp only at hx hf
    subst hx hf
    unfold X7_heard_L129
    simp only []
    rcases Nat.lt_or_ge i m with hlt | hge
    · obtain ⟨a1, a2⟩ := ht (2 * i) (by omega)
      obtain ⟨a3, a4⟩ := ht (2 * i + 1) (by omega)
      have g1 : ch (2 * i) < 61 := by
        have := ha (2 * i) (by omega)
        unfold gdJ at this
        rw [if_pos (by omega)] at this
        exact this
      have e1 : fiP σ ch p (i + 1) = (fiP σ ch p i && (rdP σ p (ch (2 * i)) == decide (ch (2 * i + 1) = 1))) := rfl
      have s1 : (nI (ch (2 * i + 1)) = 1) ↔ ch (2 * i + 1) = 1 := nI_eq (b := 1) (by omega) (by decide)
      rw [if_neg (nI_ge (by omega) (by omega)), ldN (by omega) (by decide), obs, mup_s]
      by_cases cf : fiP σ ch p i = true
      · rw [cf, Bool.true_and] at e1
        rw [cf, if_neg b01T, mup_r (show (4 : Nat) ≠ 6 by decide), ldN (by omega) (by decide), obs, a2, isRead7 (τ := mup τ 6 p (b01 true)) h (by rw [mup_r (by decide)]; exact hr) hp (by omega) (by rw [mup_r (by decide)]; exact e7), obs, nI_1, ldN (by omega) (by decide), obs, a4, stoN (by omega) (by decide), stoN (by omega) (by decide), show nI (2 * i) + 2 = nI (2 * (i + 1)) from nI_add (2 * i) 2, mup_mup, mup_mup]
        simp only [obs]
        by_cases c : ch (2 * i + 1) = 1
        · rw [if_pos (s1.mpr c)]
          rw [decide_eq_true c] at e1
          cases q : rdP σ p (ch (2 * i)) with
          | true =>
            rw [q] at e1
            rw [if_pos (show b01 true = 1 from rfl)]
            exact Rn.mk (Or.inl ⟨_, rfl, hlt, rfl, by rw [e1]; rfl⟩)
          | false =>
            rw [q] at e1
            rw [if_neg (by decide)]
            exact Rn.mk (Or.inl ⟨_, rfl, hlt, rfl, by rw [e1]; rfl⟩)
        · rw [if_neg (fun g => c (s1.mp g))]
          rw [decide_eq_false c] at e1
          cases q : rdP σ p (ch (2 * i)) with
          | true =>
            rw [q] at e1
            rw [if_neg b01T]
            exact Rn.mk (Or.inl ⟨_, rfl, hlt, rfl, by rw [e1]; rfl⟩)
          | false =>
            rw [q] at e1
            rw [if_pos b01F]
            exact Rn.mk (Or.inl ⟨_, rfl, hlt, rfl, by rw [e1]; rfl⟩)
      · rw [nBf cf, if_pos b01F]
        exact Rn.mk (Or.inr ⟨_, rfl, by rw [fiP_mono (nBf cf) (show i ≤ m by omega)]⟩)
    · have : i = m := by omega
      subst this
      rw [if_pos (nI_le (Nat.le_refl _) (by omega))]
      exact Rn.mk (Or.inr ⟨_, rfl, rfl⟩)
  obtain ⟨e, e1, rfl⟩ := key
  exact e1
theorem heard83 (h : WI (cw σ 0)) (hr : WR (cw σ 0) (τ 0)) (hm : m ≤ 20) (ha : allJ ch (2 * m)) (ht : ∀ k, k < 400 → ch k < 256 ∧ τ 4 k = nI (ch k)) : Rn (loopO (X7_heard_L83 (nI (2 * m))) FU (τ, 0, 0)) (fun e => hrd σ τ e.1 ch m (21 * nK (cw σ 0)) ∧ e.2 = sumI (21 * nK (cw σ 0)) (fun p => b01 (fiP σ ch p m))) := by
  obtain ⟨e, hK⟩ := h.K
  refine loopO_inv (fun p (s : Mm × Int32 × Int32) => s.2.2 = nI p ∧ hrd σ τ s.1 ch m p ∧ s.2.1 = sumI p (fun p => b01 (fiP σ ch p m))) _ (21 * nK (cw σ 0)) (by unfold FU; omega) (fun p s hp hs => ?_) ⟨rfl, ⟨fun _ _ _ => rfl, fun p hp => absurd hp (by omega)⟩, rfl⟩
  obtain ⟨t, c, x⟩ := s
  obtain ⟨hx, hh, hc⟩ := hs
  simp only at hx hh hc
  subst hx hc
  have r0 : WR (cw σ 0) (t 0) := by rw [hh.1 0 (by decide) (by decide)]; exact hr
  unfold X7_heard_L83
  simp only []
  rw [show t 0 4 = nI (nK (cw σ 0)) from (r0 0 2 (by decide)).symm.trans e, show (21 : Int32) * nI (nK (cw σ 0)) = nI (21 * nK (cw σ 0)) from pk_mul 21 _]
  rcases Nat.lt_or_ge p (21 * nK (cw σ 0)) with hlt | hge
  · obtain ⟨-, u2, -⟩ := up_P (σ := σ) h rfl r0 hlt
    obtain ⟨q1, q2⟩ := p21 (p := p) (by omega)
    have f := heard129 (σ := σ) (τ := mup t 7 p (nI (upP σ p))) (c3 := sumI p (fun p => b01 (fiP σ ch p m))) h (by rw [mup_r (by decide)]; exact r0) hm ha (fun k hk => by rw [mup_r (by decide), hh.1 4 (by decide) (by decide)]; exact ht k hk) hlt mup_s
    rw [if_neg (nI_ge hlt (by omega)), q2, q1, u2, obs, stoN (by omega) (by decide), obs, stoN (by omega) (by decide), obs, f, obs, ldN (by omega) (by decide), obs, mup_s, nI_1]
    have new : hrd σ τ (mup (mup t 7 p (nI (upP σ p))) 6 p (b01 (fiP σ ch p m))) ch m (p + 1) := by
      refine ⟨fun r a b => by rw [mup_r a, mup_r b]; exact hh.1 r a b, fun j hj => ?_⟩
      rw [mup_r (show (7 : Nat) ≠ 6 by decide)]
      by_cases ej : j = p
      · subst ej
        rw [mup_s, mup_s]
        exact ⟨rfl, rfl⟩
      · rw [mup_j ej, mup_j ej, mup_r (show (6 : Nat) ≠ 7 by decide)]
        exact hh.2 j (by omega)
    have es : sumI (p + 1) (fun p => b01 (fiP σ ch p m)) = sumI p (fun p => b01 (fiP σ ch p m)) + b01 (fiP σ ch p m) := rfl
    cases q : fiP σ ch p m with
    | true =>
      rw [q] at new es
      rw [if_neg b01T]
      simp only [obs]
      exact Rn.mk (Or.inl ⟨_, rfl, hlt, rfl, new, es.symm⟩)
    | false =>
      rw [q] at new es
      rw [if_pos b01F]
      simp only [obs]
      exact Rn.mk (Or.inl ⟨_, rfl, hlt, rfl, new, es.symm⟩)
  · have : p = 21 * nK (cw σ 0) := by omega
    subst this
    rw [if_pos (nI_le (Nat.le_refl _) (by omega))]
    exact Rn.mk (Or.inr ⟨_, rfl, hh, rfl⟩)
/-- both have heard -/
def Both (σ σ' : Cs) (τ τ' : Mm) (ch : Nat → Nat) (m : Nat) : Prop := jarS σ σ' (21 * nK (cw σ 0)) ∧ hrd σ τ τ' ch m (21 * nK (cw σ 0)) ∧ (∀ p, p < 21 * nK (cw σ 0) → X6_fits σ' (nI p) = some (b01 (fiP σ ch p m))) ∧ ∀ p t, p < 21 * nK (cw σ 0) → t < 256 → X6_isRead σ' (nI p) (nI t) = some (b01 (rdP σ p t)) ∧ X7_isRead τ' (nI p) (nI t) = some (b01 (rdP σ p t))
theorem jarS.cw (j : jarS σ σ' l) : cw σ' = cw σ ∧ cl σ' = cl σ ∧ ∀ r, r ≠ 5 → r ≠ 6 → co σ' r = co σ r := by
  obtain ⟨⟨f, g, rfl⟩, -⟩ := j
  exact ⟨rfl, rfl, fun r a b => by rw [co_cou, mset_r b, mset_r a]⟩
theorem many1 (h : WI (cw σ 0)) (b : Both σ σ' τ τ' ch m) : X6_many σ' = some (sumI (21 * nK (cw σ 0)) (fun p => b01 (fiP σ ch p m))) := by
  obtain ⟨e, hK⟩ := h.K
  unfold X6_many
  refine ob1 (loop_sum (fun p => b01 (fiP σ ch p m)) (21 * nK (cw σ 0)) (by unfold FU; omega) (fun i acc hi => ?_) (fun acc => ?_)) rfl
  · unfold X6_many_L4
    simp only []
    rw [b.1.cw.1, e, show nI (nK (cw σ 0)) * (21 : Int32) = nI (nK (cw σ 0) * 21) from pk_mul _ 21, if_neg (nI_ge (by omega) (by omega)), b.2.2.1 i hi, obs, nI_1]
    cases fiP σ ch i m <;> rfl
  · unfold X6_many_L4
    rw [b.1.cw.1, e, show nI (nK (cw σ 0)) * (21 : Int32) = nI (nK (cw σ 0) * 21) from pk_mul _ 21, if_pos (nI_le (by omega) (by omega))]
theorem inks1 (h : WI (cw σ 0)) (b : Both σ σ' τ τ' ch m) : X6_inks σ' = some (inkO (fun p => fiP σ ch p m) (21 * nK (cw σ 0))) := by
  obtain ⟨e, hK⟩ := h.K
  unfold X6_inks
  refine ob1 (loopO_run (step := X6_inks_L4 σ') (fun i => (inkO (fun p => fiP σ ch p m) i, nI i)) (21 * nK (cw σ 0)) (by unfold FU; omega) (fun i hi => ?_) ?_) rfl
  · unfold X6_inks_L4
    simp only []
    rw [b.1.cw.1, e, show nI (nK (cw σ 0)) * (21 : Int32) = nI (nK (cw σ 0) * 21) from pk_mul _ 21, if_neg (nI_ge (by omega) (by omega)), b.2.2.1 i hi, obs, nI_1, (p21 (p := i) (by omega)).1]
    show _ = some (Sum.inl (inkO (fun p => fiP σ ch p m) i ||| (if fiP σ ch i m = true then (1 : Int32) <<< (nI (i / 21) &&& 31) else 0), nI (i + 1)))
    cases fiP σ ch i m <;> rfl
  · unfold X6_inks_L4
    rw [b.1.cw.1, e, show nI (nK (cw σ 0)) * (21 : Int32) = nI (nK (cw σ 0) * 21) from pk_mul _ 21, if_pos (nI_le (by omega) (by omega))]
theorem inks7 (h : WI (cw σ 0)) (hr : WR (cw σ 0) (τ' 0)) (b : hrd σ τ τ' ch m (21 * nK (cw σ 0))) : loopO (X7_jars_L48 τ') FU (0, 0) = some (inkO (fun p => fiP σ ch p m) (21 * nK (cw σ 0))) := by
  obtain ⟨e, hK⟩ := h.K
  have e4 : τ' 0 4 = nI (nK (cw σ 0)) := (hr 0 2 (by decide)).symm.trans e
  refine loopO_run (step := X7_jars_L48 τ') (fun i => (inkO (fun p => fiP σ ch p m) i, nI i)) (21 * nK (cw σ 0)) (by unfold FU; omega) (fun i hi => ?_) ?_
  · unfold X7_jars_L48
    simp only []
    rw [e4, show (21 : Int32) * nI (nK (cw σ 0)) = nI (21 * nK (cw σ 0)) from pk_mul 21 _, if_neg (nI_ge (by omega) (by omega)), ldN (by omega) (by decide), obs, (b.2 i hi).2, nI_1, (p21 (p := i) (by omega)).1]
    show _ = some (Sum.inl (inkO (fun p => fiP σ ch p m) i ||| (if fiP σ ch i m = true then (1 : Int32) <<< (nI (i / 21) &&& 31) else 0), nI (i + 1)))
    cases fiP σ ch i m <;> rfl
  · unfold X7_jars_L48
    rw [e4, show (21 : Int32) * nI (nK (cw σ 0)) = nI (21 * nK (cw σ 0)) from pk_mul 21 _, if_pos (nI_le (by omega) (by omega))]
end AN
