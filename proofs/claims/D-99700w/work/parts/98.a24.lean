/-! PURE: inks by themselves: forged, soonest, apart -/
def skN (w : Mm) (i s : Nat) : Int32 := w 13 i * w 9 s / 10
section AL
variable {Λ : Nat → Nat → (Nat → Int32) → Int32} {Λn : Nat → Int32} {σ : Cs} {τ : Mm}
theorem sk_N {w : Mm} (h : WI w) {i s : Nat} (hi : i < nK w) (hs : s < 4) : ∃ k, k ≤ 8 ∧ skN w i s = nI k := by
  obtain ⟨a, ha, ea⟩ := h.soak hi
  obtain ⟨b, hb, eb⟩ := h.damp hs
  unfold skN
  rw [ea, eb, pk_mul, show (10 : Int32) = nI 10 from rfl]
  have : a * b ≤ 81 := Nat.le_trans (Nat.mul_le_mul ha hb) (by decide)
  rw [pk_div (by omega) (by decide) (by decide)]
  exact ⟨a * b / 10, by omega, rfl⟩
theorem X1_soaksUp_s {i s : Nat} (hi : i < 6) (hs : s < 4) : X1_soaksUp σ (nI i) (nI s) = some (skN (cw σ 0) i s) := by
  unfold X1_soaksUp
  rw [ldN hi (by decide), obs, ldN hs (by decide), obs]
  rfl
theorem up_both {w : Mm} (h : WI w) (ew : cw σ 0 = w) (hr : WR w (τ 0)) {i t : Nat} (hi : i < nK w) (ht : t ≤ 9999) : ∃ u, t ≤ u ∧ u ≤ t + 99 ∧ X1_readFrom σ (nI i) (nI t) = some (nI u) ∧ X7_upOf τ (nI i) (nI t) = some (nI u) := by
  have hK := h.K.2
  obtain ⟨ag, a1, a2, ea⟩ := h.age hi
  unfold X1_readFrom X7_upOf
  have key := loop_rel (f := X1_readFrom_L5 σ (nI i)) (g := X7_upOf_L5 τ (nI i)) (fun n (s t' : Int32 × Int32) => s = t' ∧ ∃ r, n ≤ r ∧ r ≤ 107 ∧ (n ≤ 98 ∨ ag ≤ r) ∧ s = (nI r, nI (t + n))) (fun x y => x = y ∧ ∃ u, t ≤ u ∧ u ≤ t + 99 ∧ x = nI u) 99 (by decide) (fun n s t' hn hr' => ?_) (s0 := (0, nI t)) (t0 := (0, nI t)) ⟨rfl, 0, by decide, by decide, Or.inl (by decide), rfl⟩
  · obtain ⟨x, y, f1, f2, rfl, u, u1, u2, rfl⟩ := key
    exact ⟨u, u1, u2, by rw [f1, obs], by rw [f2, obs]⟩
  · obtain ⟨rfl, r, r1, r2, r3, rfl⟩ := hr'
    unfold X1_readFrom_L5 X7_upOf_L5
    simp only []
    rw [ldN (by omega) (by decide), obs, T_ink0 hr (by omega), obs, ew, ea]
    by_cases c : nI ag ≤ nI r
    · rw [if_pos c, if_pos c]
      exact Or.inr ⟨_, _, rfl, rfl, rfl, t + n, by omega, by omega, rfl⟩
    · have c2 : r < ag := by
        refine Nat.lt_of_not_le fun q => c (nI_le q (by omega))
      have em : nI (t + n) - nI (t + n) / 4 * 4 = nI ((t + n) % 4) := pk_rem (a := t + n) (d := 4) (by omega) (by decide) (by decide)
      obtain ⟨k, hk, ek⟩ := sk_N h hi (s := (t + n) % 4) (Nat.mod_lt _ (by decide))
      rw [if_neg c, if_neg c, em, X1_soaksUp_s (by omega) (Nat.mod_lt _ (by decide)), T_soaked hr (by omega) (Nat.mod_lt _ (by decide)), ew, show w 13 i * w 9 ((t + n) % 4) / 10 = skN w i ((t + n) % 4) from rfl, ek]
      simp only [obs, nI_1, show nI r + (1 + nI k) = nI (r + (1 + k)) from by rw [show (1 : Int32) = nI 1 from rfl, nI_add, nI_add]]
      refine Or.inl ⟨_, _, rfl, rfl, by omega, rfl, r + (1 + k), by omega, by omega, ?_, rfl⟩
      by_cases q : n + 1 ≤ 98
      · exact Or.inl q
      · exact Or.inr (by omega)
theorem S_forged (h : Sys Λ Λn σ τ) (a : Int32) : CallX Λ Λn (cdx [0, 2]) (X1_forged σ a) (X7_forged τ a) := by
  unfold X1_forged X7_forged X7_forged_J14
  rw [X1_deedAt_s, T_isDeed h.2.1, obs, obs]
  by_cases c : inB a 0 (cw σ 0 0 3 - 1) = true
  · obtain ⟨d, hd, rfl⟩ := inB_D h.1 c
    have hD := h.1.D.2
    rw [if_pos c, c, if_neg b01T, obs, if_pos t00]
    simp only [Sum.elim_inl]
    have h1 := h.t0 0
    generalize mup τ 10 0 0 = τ1 at h1
    rw [ldN (by omega) (by decide), T_of9 h1.2.1 (by omega), obs, obs]
    unfold X1_forged_J23 X7_forged_J43
    by_cases c2 : cw σ 0 25 d = -1
    · rw [if_pos c2, if_pos c2, show X1_can 0 = some (some 2) from rfl, obs, Option.elim_some, obs, if_neg (show ¬ mup τ1 10 0 2 10 0 = 0 by rw [mup_s]; decide)]
      exact .er0 h1 rfl (by decide) rfl rfl
    · have w0 := h1.wr0 0
      obtain ⟨i, hi, ei⟩ := h.1.ink hd
      obtain ⟨t, ht, et⟩ : isN (cw σ 0 23 d) 9999 := h.1.1 23 d (by show d < 8; omega) hd
      rw [if_neg c2, if_neg c2, show X1_can 1 = some none from rfl, obs, Option.elim_none, obs, if_pos (show mup τ1 10 0 0 10 0 = 0 from mup_s), ldN (by omega) (by decide), obs, ldN (by omega) (by decide), obs, T_of0 w0 (by omega), obs, T_of7 w0 (by omega), obs, T_of9 w0 (by omega), ei, et]
      obtain ⟨u, -, -, e1, e2⟩ := up_both (σ := σ) h.1 rfl w0 hi ht
      rw [e1, e2, ldN (by omega) (by decide)]
      simp only [obs]
      by_cases c3 : nI u = cw σ 0 25 d + 1
      · rw [if_pos c3, if_pos c3]
        exact .ok0 h1 rfl rfl
      · rw [if_neg c3, if_neg c3]
        exact .ok0 h1 rfl rfl
  · rw [if_neg c, nBf c, if_pos b01F, obs, if_neg (t01 (by decide))]
    simp only [Sum.elim_inr]
    exact .er0 h rfl (by decide) rfl rfl
theorem S_soonest (h : Sys Λ Λn σ τ) (a : Int32) : CallR Λ Λn σ (X1_soonest σ a) (X7_soonest τ a) := by
  have w0 := h.wr0 0
  obtain ⟨e, hK⟩ := h.1.K
  obtain ⟨T, hT, eT⟩ := h.1.T
  unfold X1_soonest X7_soonest
  rw [obs]
  have e4 : mup τ 10 0 0 0 4 = nI (nK (cw σ 0)) := (w0 0 2 (by decide)).symm.trans e
  have e6 : mup τ 10 0 0 0 6 = nI T := (w0 0 4 (by decide)).symm.trans eT
  have key := loop_both (f := X1_soonest_L8 σ a) (g := X7_soonest_L13 (mup τ 10 0 0) a) (fun i (s : Int32 × Int32 × Int32) => s.2.2 = nI i) (nK (cw σ 0)) (FU8 (by omega)) (fun i s hi hs => ?_) (s0 := (-1, 81, 0)) rfl
  · obtain ⟨r, e1, e2⟩ := key
    rw [e1, e2, obs, obs]
    by_cases c : r.1 = -1
    · rw [if_pos c, if_pos c]
      exact ⟨_, _, rfl, rfl, h.t0 0⟩
    · rw [if_neg c, if_neg c]
      by_cases c2 : a = 0
      · rw [if_pos c2, if_pos c2]
        exact ⟨_, _, rfl, rfl, h.t0 0⟩
      · rw [if_neg c2, if_neg c2]
        exact ⟨_, _, rfl, rfl, h.t0 0⟩
  · obtain ⟨s1, s2, s3⟩ := s
    have hx : s3 = nI i := hs
    subst hx
    unfold X1_soonest_L8 X7_soonest_L13
    simp only []
    rw [e4, e6, e, eT]
    rcases Nat.lt_or_ge i (nK (cw σ 0)) with hlt | hge
    · obtain ⟨u, -, -, f1, f2⟩ := up_both (σ := σ) h.1 rfl w0 hlt hT
      rw [if_neg (nI_ge hlt (by omega)), if_neg (nI_ge hlt (by omega)), f1, f2]
      simp only [obs, nI_1]
      by_cases c : nI u - nI T < s2
      · rw [if_pos c]
        exact ⟨_, rfl, rfl, Or.inl ⟨_, rfl, hlt, rfl⟩⟩
      · rw [if_neg c]
        exact ⟨_, rfl, rfl, Or.inl ⟨_, rfl, hlt, rfl⟩⟩
    · have : i = nK (cw σ 0) := by omega
      subst this
      rw [if_pos (nI_le (Nat.le_refl _) (by omega)), if_pos (nI_le (Nat.le_refl _) (by omega))]
      exact ⟨_, rfl, rfl, Or.inr ⟨_, rfl⟩⟩
/-! told apart -/
def tsB (w : Mm) (set : Int32) (a b : Nat) : Nat → Bool
  | 0 => false
  | n + 1 => tsB w set a b n || (hasB set (nI n) && decide (¬ skN w a n = skN w b n))
def taP (w : Mm) (set : Int32) (a b : Nat) : Bool := decide (w 13 a = w 13 b) || tsB w set a b 4
theorem tsB_mono {w : Mm} {set : Int32} {a b n m : Nat} (h : tsB w set a b n = true) (hm : n ≤ m) : tsB w set a b m = true := by
  induction m with
  | zero =>
    have : n = 0 := by omega
    subst this
    exact h
  | succ m ih =>
    by_cases e : n = m + 1
    · subst e; exact h
    · show (tsB w set a b m || _) = true
      rw [ih (by omega)]
      rfl
theorem tsB_sym {w : Mm} {set : Int32} {a b : Nat} : ∀ n, tsB w set a b n = tsB w set b a n := by
  intro n
  induction n with
  | zero => rfl
  | succ n ih =>
    show (tsB w set a b n || _) = (tsB w set b a n || _)
    rw [ih]
    congr 2
    exact decide_eq_decide.mpr ⟨fun h q => h q.symm, fun h q => h q.symm⟩
theorem taP_sym {w : Mm} {set : Int32} {a b : Nat} : taP w set a b = taP w set b a := by
  unfold taP
  rw [tsB_sym]
  congr 1
  exact decide_eq_decide.mpr ⟨Eq.symm, Eq.symm⟩
def apA (w : Mm) (set : Int32) : Prop := ∀ a b, a < nK w → b < a → taP w set a b = true
theorem X1_tellApart_s (h : WI (cw σ 0)) {set : Int32} {a b : Nat} (ha : a < 6) (hb : b < 6) : X1_tellApart σ set (nI a) (nI b) = some (b01 (taP (cw σ 0) set a b)) := by
  unfold X1_tellApart taP
  rw [ldN ha (by decide), obs, ldN hb (by decide), obs]
  by_cases c : cw σ 0 13 a = cw σ 0 13 b
  · rw [if_pos c, decide_eq_true c]
    rfl
  · rw [if_neg c, decide_eq_false c, Bool.false_or]
    have key : Rn (loopO (X1_tellApart_L26 σ set (nI a) (nI b)) FU 0) (fun e => (e = .inl () ∧ tsB (cw σ 0) set a b 4 = true) ∨ (e = .inr () ∧ tsB (cw σ 0) set a b 4 = false)) := by
      refine loopO_inv (fun i (s : Int32) => s = nI i ∧ tsB (cw σ 0) set a b i = false) _ 4 (by decide) (fun i s hi hs => ?_) ⟨rfl, rfl⟩
      obtain ⟨rfl, hf⟩ := hs
      unfold X1_tellApart_L26
      by_cases c4 : i = 4
      · subst c4
        rw [if_pos (by decide)]
        exact Rn.mk (Or.inr ⟨_, rfl, Or.inr ⟨rfl, hf⟩⟩)
      · have e1 : tsB (cw σ 0) set a b (i + 1) = (tsB (cw σ 0) set a b i || (hasB set (nI i) && decide (¬ skN (cw σ 0) a i = skN (cw σ 0) b i))) := rfl
        rw [hf, Bool.false_or] at e1
        rw [if_neg (show ¬ (4 : Int32) ≤ nI i from nI_ge (b := 4) (by omega) (by decide)), has_s, obs, X1_soaksUp_s ha (by omega), X1_soaksUp_s hb (by omega), obs, obs, nI_1]
        simp only [obs]
        by_cases c5 : hasB set (nI i) = true
        · rw [c5, if_neg b01T]
          rw [c5, Bool.true_and] at e1
          by_cases c6 : skN (cw σ 0) a i = skN (cw σ 0) b i
          · rw [if_pos c6]
            rw [decide_eq_false (fun q => q c6)] at e1
            exact Rn.mk (Or.inl ⟨_, rfl, by omega, rfl, e1⟩)
          · rw [if_neg c6]
            rw [decide_eq_true c6] at e1
            exact Rn.mk (Or.inr ⟨_, rfl, Or.inl ⟨rfl, tsB_mono e1 (by omega)⟩⟩)
        · rw [nBf c5, if_pos b01F]
          rw [nBf c5, Bool.false_and] at e1
          exact Rn.mk (Or.inl ⟨_, rfl, by omega, rfl, e1⟩)
    obtain ⟨e, e1, ⟨rfl, e2⟩ | ⟨rfl, e2⟩⟩ := key
    · rw [e1, obs, e2]
      rfl
    · rw [e1, obs, e2]
      rfl
theorem X1_allApart_s (h : WI (cw σ 0)) {set : Int32} : (X1_allApart σ set = some 1 ∧ apA (cw σ 0) set) ∨ (X1_allApart σ set = some 0 ∧ ¬ apA (cw σ 0) set) := by
  obtain ⟨e, hK⟩ := h.K
  unfold X1_allApart
  have key : Rn (loopO (X1_allApart_L2 σ set) FU 0) (fun e => (e = .inl () ∧ ¬ apA (cw σ 0) set) ∨ (e = .inr () ∧ apA (cw σ 0) set)) := by
    refine loopO_inv (fun i (s : Int32) => s = nI i ∧ ∀ a b, a < i → b < a → taP (cw σ 0) set a b = true) _ (nK (cw σ 0)) (FU8 (by omega)) (fun i s hi hs => ?_) ⟨rfl, fun a b ha => absurd ha (by omega)⟩
    obtain ⟨rfl, hf⟩ := hs
    unfold X1_allApart_L2
    rw [e]
    rcases Nat.lt_or_ge i (nK (cw σ 0)) with hlt | hge
    · rw [if_neg (nI_ge hlt (by omega))]
      have inner : Rn (loopO (X1_allApart_L15 σ set (nI i)) FU 0) (fun e => (e = .inl () ∧ ∃ b, b < i ∧ taP (cw σ 0) set i b = false) ∨ (e = .inr () ∧ ∀ b, b < i → taP (cw σ 0) set i b = true)) := by
        refine loopO_inv (fun j (s : Int32) => s = nI j ∧ ∀ b, b < j → taP (cw σ 0) set i b = true) _ i (FU8 (by omega)) (fun j s hj hs => ?_) ⟨rfl, fun b hb => absurd hb (by omega)⟩
        obtain ⟨rfl, hg⟩ := hs
        unfold X1_allApart_L15
        rcases Nat.lt_or_ge j i with jlt | jge
        · rw [if_neg (nI_ge jlt (by omega)), X1_tellApart_s h (by omega) (by omega), obs, nI_1]
          by_cases c : taP (cw σ 0) set i j = true
          · rw [c, if_neg b01T, obs]
            refine Rn.mk (Or.inl ⟨_, rfl, jlt, rfl, fun b hb => ?_⟩)
            by_cases q : b = j
            · subst q; exact c
            · exact hg b (by omega)
          · rw [nBf c, if_pos b01F]
            exact Rn.mk (Or.inr ⟨_, rfl, Or.inl ⟨rfl, j, jlt, nBf c⟩⟩)
        · have : j = i := by omega
          subst this
          rw [if_pos (nI_le (Nat.le_refl _) (by omega))]
          exact Rn.mk (Or.inr ⟨_, rfl, Or.inr ⟨rfl, hg⟩⟩)
      obtain ⟨q, e1, ⟨rfl, b, hb, e2⟩ | ⟨rfl, e2⟩⟩ := inner
      · rw [e1, obs]
        refine Rn.mk (Or.inr ⟨_, rfl, Or.inl ⟨rfl, fun g => ?_⟩⟩)
        have := g i b hlt hb
        rw [e2] at this
        cases this
      · rw [e1, obs]
        rw [Sum.elim_inr, obs, nI_1]
        refine Rn.mk (Or.inl ⟨_, rfl, hlt, rfl, fun a b ha hb => ?_⟩)
        by_cases q : a = i
        · subst q; exact e2 b hb
        · exact hf a b (by omega) hb
    · have : i = nK (cw σ 0) := by omega
      subst this
      rw [if_pos (nI_le (Nat.le_refl _) (by omega))]
      exact Rn.mk (Or.inr ⟨_, rfl, Or.inr ⟨rfl, hf⟩⟩)
  obtain ⟨q, e1, ⟨rfl, e2⟩ | ⟨rfl, e2⟩⟩ := key
  · exact Or.inr ⟨by rw [e1, obs]; rfl, e2⟩
  · exact Or.inl ⟨by rw [e1, obs]; rfl, e2⟩
theorem T_areApart {w : Mm} (h : WI w) (hr : WR w (τ 0)) {set : Int32} {a b : Nat} (ha : a < 6) (hb : b < 6) : X7_areApart τ set (nI a) (nI b) = some (b01 (tsB w set a b 4)) := by
  unfold X7_areApart
  have key : loopO (X7_areApart_L6 τ set (nI a) (nI b)) FU (0, 0) = some (b01 (tsB w set a b 4)) := by
    refine loopO_run (step := X7_areApart_L6 τ set (nI a) (nI b)) (fun i => (b01 (tsB w set a b i), nI i)) 4 (by decide) (fun i hi => ?_) ?_
    · have e1 : tsB w set a b (i + 1) = (tsB w set a b i || (hasB set (nI i) && decide (¬ skN w a i = skN w b i))) := rfl
      unfold X7_areApart_L6
      simp only []
      rw [if_neg (show ¬ (4 : Int32) ≤ nI i from nI_ge (b := 4) (by omega) (by decide)), isOf_s, obs, T_soaked hr ha (by omega), T_soaked hr hb (by omega), obs, obs, nI_1, e1, show w 13 a * w 9 i / 10 = skN w a i from rfl, show w 13 b * w 9 i / 10 = skN w b i from rfl]
      simp only [obs]
      by_cases c : tsB w set a b i = true
      · rw [c, if_neg b01T]
        rfl
      · rw [nBf c, if_pos b01F, Bool.false_or]
        by_cases c5 : hasB set (nI i) = true
        · rw [c5, if_neg b01T, Bool.true_and]
          by_cases c6 : skN w a i = skN w b i
          · rw [if_pos c6, decide_eq_false (fun q => q c6)]
            rfl
          · rw [if_neg c6, decide_eq_true c6]
            rfl
        · rw [nBf c5, if_pos b01F]
          rfl
    · unfold X7_areApart_L6
      exact if_pos (show (4 : Int32) ≤ nI 4 by decide)
  rw [key, obs, zb_b01, obs]
theorem T_apart61 {w : Mm} (h : WI w) (hr : WR w (τ 0)) {c1 set : Int32} {i : Nat} (hi : i < nK w) : Rn (loopO (X7_apart_L61 τ c1 set (nI i)) FU (1, nI (i + 1))) (fun e => (e = 1 ∧ ∀ j, i < j → j < nK w → taP w set i j = true) ∨ (e = 0 ∧ ∃ j, i < j ∧ j < nK w ∧ taP w set i j = false)) := by
  obtain ⟨e, hK⟩ := h.K
  have e4 : τ 0 4 = nI (nK w) := (hr 0 2 (by decide)).symm.trans e
  refine loopO_inv (fun k (s : Int32 × Int32) => s.2 = nI (i + 1 + k) ∧ i + 1 + k ≤ nK w ∧ ((s.1 = 1 ∧ ∀ j, i < j → j < i + 1 + k → taP w set i j = true) ∨ (s.1 = 0 ∧ ∃ j, i < j ∧ j < nK w ∧ taP w set i j = false))) _ 8 (by decide) (fun k s hk hs => ?_) ⟨rfl, by omega, Or.inl ⟨rfl, fun j h1 h2 => absurd h1 (by omega)⟩⟩
  obtain ⟨acc, x⟩ := s
  obtain ⟨hx, hle, hf⟩ := hs
  simp only at hx hf
  subst hx
  unfold X7_apart_L61
  simp only []
  rw [e4]
  rcases Nat.lt_or_ge (i + 1 + k) (nK w) with hlt | hge
  · rw [if_neg (nI_ge hlt (by omega))]
    rcases hf with ⟨rfl, hf⟩ | ⟨rfl, hf⟩
    · rw [if_neg (by decide), T_ink2 hr (by omega), T_ink2 hr (by omega), T_areApart h hr (by omega) (by omega), nI_1]
      simp only [obs]
      have good : taP w set i (i + 1 + k) = true → ∀ j, i < j → j < i + 1 + (k + 1) → taP w set i j = true := by
        intro g j h1 h2
        by_cases q : j = i + 1 + k
        · subst q; exact g
        · exact hf j h1 (by omega)
      by_cases c : w 13 i = w 13 (i + 1 + k)
      · rw [if_pos c]
        exact Rn.mk (Or.inl ⟨_, rfl, by omega, rfl, by omega, Or.inl ⟨rfl, good (by unfold taP; rw [decide_eq_true c]; rfl)⟩⟩)
      · rw [if_neg c]
        have et : taP w set i (i + 1 + k) = tsB w set i (i + 1 + k) 4 := by unfold taP; rw [decide_eq_false c]; rfl
        by_cases c2 : tsB w set i (i + 1 + k) 4 = true
        · rw [c2, if_neg b01T]
          exact Rn.mk (Or.inl ⟨_, rfl, by omega, rfl, by omega, Or.inl ⟨rfl, good (et.trans c2)⟩⟩)
        · rw [nBf c2, if_pos b01F]
          exact Rn.mk (Or.inl ⟨_, rfl, by omega, rfl, by omega, Or.inr ⟨rfl, _, by omega, hlt, et.trans (nBf c2)⟩⟩)
    · rw [if_pos rfl]
      exact Rn.mk (Or.inr ⟨_, rfl, Or.inr ⟨rfl, hf⟩⟩)
  · have e5 : i + 1 + k = nK w := by omega
    rw [e5, if_pos (nI_le (Nat.le_refl _) (by omega))]
    rcases hf with ⟨rfl, hf⟩ | ⟨rfl, hf⟩
    · exact Rn.mk (Or.inr ⟨_, rfl, Or.inl ⟨rfl, fun j h1 h2 => hf j h1 (by omega)⟩⟩)
    · exact Rn.mk (Or.inr ⟨_, rfl, Or.inr ⟨rfl, hf⟩⟩)
theorem T_apart40 {w : Mm} (h : WI w) (hr : WR w (τ 0)) {c1 set : Int32} : Rn (loopO (X7_apart_L40 τ c1 set) FU (1, 0)) (fun e => (e = 1 ∧ apA w set) ∨ (e = 0 ∧ ¬ apA w set)) := by
  obtain ⟨e, hK⟩ := h.K
  have e4 : τ 0 4 = nI (nK w) := (hr 0 2 (by decide)).symm.trans e
  have no : (∃ i j, i < j ∧ j < nK w ∧ taP w set i j = false) → ¬ apA w set := by
    rintro ⟨i, j, h1, h2, h3⟩ g
    have := g j i h2 h1
    rw [taP_sym, h3] at this
    cases this
  refine loopO_inv (fun i (s : Int32 × Int32) => s.2 = nI i ∧ ((s.1 = 1 ∧ ∀ a b, a < i → a < b → b < nK w → taP w set a b = true) ∨ (s.1 = 0 ∧ ∃ a b, a < b ∧ b < nK w ∧ taP w set a b = false))) _ (nK w) (FU8 (by omega)) (fun i s hi hs => ?_) ⟨rfl, Or.inl ⟨rfl, fun a b ha => absurd ha (by omega)⟩⟩
  obtain ⟨acc, x⟩ := s
  obtain ⟨hx, hf⟩ := hs
  simp only at hx hf
  subst hx
  unfold X7_apart_L40
  simp only []
  rw [e4]
  rcases Nat.lt_or_ge i (nK w) with hlt | hge
  · rw [if_neg (nI_ge hlt (by omega))]
    rcases hf with ⟨rfl, hf⟩ | ⟨rfl, hf⟩
    · obtain ⟨q, e1, g⟩ := T_apart61 h hr (c1 := c1) (set := set) hlt
      rw [if_neg (by decide), nI_1, obs, e1, obs, obs]
      rcases g with ⟨rfl, g⟩ | ⟨rfl, j, g1, g2, g3⟩
      · refine Rn.mk (Or.inl ⟨_, rfl, hlt, rfl, Or.inl ⟨rfl, fun a b ha hab hb => ?_⟩⟩)
        by_cases q : a = i
        · subst q; exact g b hab hb
        · exact hf a b (by omega) hab hb
      · exact Rn.mk (Or.inl ⟨_, rfl, hlt, rfl, Or.inr ⟨rfl, i, j, g1, g2, g3⟩⟩)
    · rw [if_pos rfl]
      exact Rn.mk (Or.inr ⟨_, rfl, Or.inr ⟨rfl, no hf⟩⟩)
  · have : i = nK w := by omega
    subst this
    rw [if_pos (nI_le (Nat.le_refl _) (by omega))]
    rcases hf with ⟨rfl, hf⟩ | ⟨rfl, hf⟩
    · refine Rn.mk (Or.inr ⟨_, rfl, Or.inl ⟨rfl, fun a b ha hb => ?_⟩⟩)
      rw [taP_sym]
      exact hf b a (by omega) hb ha
    · exact Rn.mk (Or.inr ⟨_, rfl, Or.inr ⟨rfl, no hf⟩⟩)
theorem T_apart40_0 {c1 set : Int32} : loopO (X7_apart_L40 τ c1 set) FU (0, 0) = some 0 := by
  refine loopO_run (step := X7_apart_L40 τ c1 set) (fun _ => (0, 0)) 0 (by decide) (fun i hi => absurd hi (by omega)) ?_
  unfold X7_apart_L40
  simp only []
  split
  · rfl
  · rfl
theorem S_apart (h : Sys Λ Λn σ τ) : CallR Λ Λn σ (X1_apart σ) (X7_apart τ) := by
  have w0 := h.wr0 0
  unfold X1_apart X7_apart
  rw [obs]
  have key := loop_both (f := X1_apart_L4 σ) (g := X7_apart_L9 (mup τ 10 0 0)) (fun i (s : Int32 × Int32) => s.2 = nI i ∧ isM s.1 16) 16 (by decide) (fun i s hi hs => ?_) (s0 := (-1, 0)) ⟨rfl, Or.inl rfl⟩
  · obtain ⟨r, e1, e2⟩ := key
    rw [e1, e2, obs, obs]
    exact ⟨_, _, rfl, rfl, h.t0 0⟩
  · obtain ⟨s1, s2⟩ := s
    obtain ⟨hx, hm⟩ := hs
    simp only at hx hm
    subst hx
    unfold X1_apart_L4 X7_apart_L9
    simp only []
    by_cases c16 : i = 16
    · subst c16
      rw [if_pos (by decide), if_pos (by decide)]
      exact ⟨_, rfl, rfl, Or.inr ⟨_, rfl⟩⟩
    · rw [if_neg (show ¬ (16 : Int32) ≤ nI i from nI_ge (b := 16) (by omega) (by decide)), if_neg (show ¬ (16 : Int32) ≤ nI i from nI_ge (b := 16) (by omega) (by decide))]
      have both : ∃ o, X1_apart_J4_26 σ s1 (nI i) = some o ∧ X7_apart_J9_31 (mup τ 10 0 0) s1 (nI i) = some o ∧ ((∃ s', o = .inl s' ∧ i < 16 ∧ s'.2 = nI (i + 1) ∧ isM s'.1 16) ∨ ∃ e, o = .inr e) := by
        unfold X1_apart_J4_26 X7_apart_J9_31 X7_apart_J9_36
        obtain ⟨q, e1, g⟩ := T_apart40 h.1 w0 (c1 := s1) (set := nI i)
        rw [e1, obs, nI_1]
        rcases X1_allApart_s h.1 (set := nI i) with ⟨a1, a2⟩ | ⟨a1, a2⟩
        · rcases g with ⟨rfl, g⟩ | ⟨rfl, g⟩
          · rw [a1, obs, if_neg (by decide), obs]
            exact ⟨_, rfl, rfl, Or.inl ⟨_, rfl, by omega, rfl, Or.inr ⟨i, by omega, rfl⟩⟩⟩
          · exact absurd a2 g
        · rcases g with ⟨rfl, g⟩ | ⟨rfl, g⟩
          · exact absurd g a2
          · rw [a1, obs, if_pos rfl]
            exact ⟨_, rfl, rfl, Or.inl ⟨_, rfl, by omega, rfl, hm⟩⟩
      rcases hm with rfl | ⟨k, hk, rfl⟩
      · rw [if_pos rfl, if_pos rfl]
        exact both
      · rw [if_neg (nI_nm (by omega)), if_neg (nI_nm (by omega))]
        obtain ⟨b1, b2⟩ := bits_8 i (by omega)
        obtain ⟨b3, b4⟩ := bits_8 k (by omega)
        rw [b1, b3]
        cases ei : J16_bitCount (nI i) with
        | none => exact absurd ei b2
        | some vi =>
          cases ek : J16_bitCount (nI k) with
          | none => exact absurd ek b4
          | some vk =>
            simp only [obs]
            by_cases c : vk ≤ vi
            · unfold X7_apart_J9_36
              rw [if_pos c, if_pos c, T_apart40_0, obs, if_pos rfl, nI_1, obs]
              exact ⟨_, rfl, rfl, Or.inl ⟨_, rfl, by omega, rfl, Or.inr ⟨k, hk, rfl⟩⟩⟩
            · rw [if_neg c, if_neg c]
              exact both
end AL
