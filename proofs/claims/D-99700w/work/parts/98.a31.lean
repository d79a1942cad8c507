/-! PURE: odds; deeds alike -/
def prF (w : Mm) (set : Int32) (x : Int64) : Nat → Int64
  | 0 => x
  | n + 1 => prF w set x n * (if hasB set (nI n) = true then (w 0 6).toInt64 else ((100 : Int32) - w 0 6).toInt64)
theorem prF_0 {w : Mm} {set : Int32} : ∀ n, prF w set 0 n = 0 := by
  intro n
  induction n with
  | zero => rfl
  | succ n ih =>
    show prF w set 0 n * _ = 0
    rw [ih, Int64.zero_mul]
def hunF : Nat → Int64
  | 0 => 1
  | n + 1 => hunF n * 100
theorem hunF_nz : ∀ n, n ≤ 6 → ¬ hunF n = 0 := by decide +kernel
theorem one_shl : ∀ n, n ≤ 6 → (1 : Int32) <<< (nI n &&& 31) = nI (2 ^ n) ∧ 2 ^ n ≤ 64 := by decide +kernel
def odF (w : Mm) (n : Nat) (k : Int32) : Nat → Int64
  | 0 => 0
  | s + 1 => odF w n k s + (match J16_bitCount (nI s) with | some v => if k ≤ v then prF w (nI s) 1 n else 0 | none => 0)
theorem sumI_add {n : Nat} {f g : Nat → Int32} : sumI n (fun i => f i + g i) = sumI n f + sumI n g := by
  induction n with
  | zero => rfl
  | succ n ih =>
    show sumI n (fun i => f i + g i) + (f n + g n) = (sumI n f + f n) + (sumI n g + g n)
    rw [ih, Int32.add_assoc, Int32.add_assoc, ← Int32.add_assoc (sumI n g), Int32.add_comm (sumI n g) (f n), Int32.add_assoc]
theorem sumI_zero {n : Nat} : sumI n (fun _ => 0) = 0 := by
  induction n with
  | zero => rfl
  | succ n ih =>
    show sumI n (fun _ => 0) + 0 = 0
    rw [ih]
    rfl
theorem sumI_swap {n m : Nat} {g : Nat → Nat → Int32} : sumI n (fun a => sumI m (fun b => g a b)) = sumI m (fun b => sumI n (fun a => g a b)) := by
  induction n with
  | zero => exact sumI_zero.symm
  | succ n ih =>
    show sumI n (fun a => sumI m (fun b => g a b)) + sumI m (fun b => g n b) = sumI m (fun b => sumI n (fun a => g a b) + g n b)
    rw [ih, sumI_add]
theorem sumI_lt {n a : Nat} {h : Nat → Int32} (ha : a ≤ n) : sumI n (fun b => if b < a then h b else 0) = sumI a h := by
  induction n with
  | zero =>
    have : a = 0 := by omega
    subst this
    rfl
  | succ n ih =>
    show sumI n _ + (if n < a then h n else 0) = _
    by_cases c : a ≤ n
    · rw [ih c, if_neg (by omega), Int32.add_zero]
    · have : a = n + 1 := by omega
      subst this
      rw [if_pos (by omega)]
      show _ = sumI n h + h n
      rw [sumI_ext (g := h) (fun i hi => if_pos (by omega))]
theorem sumI_gt0 {a : Nat} {h : Nat → Int32} : sumI (a + 1) (fun b => if a < b then h b else 0) = 0 := by
  rw [sumI_ext (g := fun _ => 0) (fun i hi => if_neg (by omega)), sumI_zero]
def lkB (w : Mm) (a b : Nat) : Bool := decide (w 16 a = w 16 b) && (decide (w 17 a = w 17 b) && (decide (w 18 a = w 18 b) && decide (w 19 a = w 19 b)))
theorem lkB_sym {w : Mm} {a b : Nat} : lkB w a b = lkB w b a := by
  unfold lkB
  rw [decide_eq_decide.mpr (⟨Eq.symm, Eq.symm⟩ : w 16 a = w 16 b ↔ w 16 b = w 16 a), decide_eq_decide.mpr (⟨Eq.symm, Eq.symm⟩ : w 17 a = w 17 b ↔ w 17 b = w 17 a), decide_eq_decide.mpr (⟨Eq.symm, Eq.symm⟩ : w 18 a = w 18 b ↔ w 18 b = w 18 a), decide_eq_decide.mpr (⟨Eq.symm, Eq.symm⟩ : w 19 a = w 19 b ↔ w 19 b = w 19 a)]
section AT
variable {Λ : Nat → Nat → (Nat → Int32) → Int32} {Λn : Nat → Int32} {σ : Cs} {τ : Mm}
theorem S_odds (h : Sys Λ Λn σ τ) (a b : Int32) : CallX Λ Λn (cdx [1]) (X1_odds σ a b) (X7_odds τ a b) := by
  unfold X1_odds X7_odds X1_odds_J24 X7_odds_J21
  rw [in_s, isIn_s, obs, obs]
  have no : CallX Λ Λn (cdx [1]) (X1_odds_J25 σ a b 0) (X7_odds_J26 τ a b 1) := by
    unfold X1_odds_J25 X7_odds_J26
    rw [show X1_demand 0 = some (some 1) from rfl, obs, Option.elim_some, obs, if_neg (t01 (by decide))]
    exact .er0 h rfl (by decide) rfl rfl
  by_cases c : inB a 0 6 = true
  · rw [c, if_neg b01T, if_neg b01T, in_s, isIn_s, obs, obs]
    by_cases c2 : inB b 0 6 = true
    · obtain ⟨n, hn, rfl⟩ := inB_C (n := 6) (by decide) c
      rw [c2, if_neg b01T, if_neg b01T]
      unfold X1_odds_J25 X7_odds_J26
      rw [show X1_demand 1 = some none from rfl, obs, Option.elim_none, obs, if_pos t00]
      have h1 := h.t0 0
      have z0 : mup τ 10 0 0 10 0 = 0 := mup_s
      generalize mup τ 10 0 0 = τ1 at h1 z0
      obtain ⟨o1, o2⟩ := one_shl n hn
      have e8 : τ1 0 8 = cw σ 0 0 6 := (h1.2.1 0 6 (by decide)).symm
      have a1 : loopO (X1_odds_L36 σ (nI n) b) FU (1, 0) = some (hunF n) := by
        refine loopO_run (step := X1_odds_L36 σ (nI n) b) (fun i => (hunF i, nI i)) n (by unfold FU; omega) (fun i hi => ?_) ?_
        · unfold X1_odds_L36
          simp only []
          rw [if_neg (nI_ge hi (by omega)), obs, nI_1, obs]
          rfl
        · unfold X1_odds_L36
          exact if_pos (nI_le (Nat.le_refl n) (by omega))
      have a7 : loopO (X7_odds_L46 τ1 (nI n) b) FU (1, 0) = some (hunF n) := by
        refine loopO_run (step := X7_odds_L46 τ1 (nI n) b) (fun i => (hunF i, nI i)) n (by unfold FU; omega) (fun i hi => ?_) ?_
        · unfold X7_odds_L46
          simp only []
          rw [if_neg (nI_ge hi (by omega)), obs, nI_1, obs]
          rfl
        · unfold X7_odds_L46
          exact if_pos (nI_le (Nat.le_refl n) (by omega))
      have b1 : ∀ u v s, loopO (X1_odds_L85 σ (nI n) b u v s) FU (1, 0) = some (prF (cw σ 0) s 1 n) := by
        intro u v s
        refine loopO_run (step := X1_odds_L85 σ (nI n) b u v s) (fun i => (prF (cw σ 0) s 1 i, nI i)) n (by unfold FU; omega) (fun i hi => ?_) ?_
        · unfold X1_odds_L85
          simp only []
          rw [if_neg (nI_ge hi (by omega)), has_s, obs, nI_1]
          show _ = some (Sum.inl (prF (cw σ 0) s 1 i * (if hasB s (nI i) = true then (cw σ 0 0 6).toInt64 else ((100 : Int32) - cw σ 0 0 6).toInt64), nI (i + 1)))
          cases hasB s (nI i) <;> rfl
        · unfold X1_odds_L85
          exact if_pos (nI_le (Nat.le_refl n) (by omega))
      have b7 : ∀ u v s x, loopO (X7_odds_L96 τ1 (nI n) b u v s) FU (x, 0) = some (prF (cw σ 0) s x n) := by
        intro u v s x
        refine loopO_run (step := X7_odds_L96 τ1 (nI n) b u v s) (fun i => (prF (cw σ 0) s x i, nI i)) n (by unfold FU; omega) (fun i hi => ?_) ?_
        · unfold X7_odds_L96
          simp only []
          rw [if_neg (nI_ge hi (by omega)), isOf_s, obs, nI_1, e8]
          show _ = some (Sum.inl (prF (cw σ 0) s x i * (if hasB s (nI i) = true then (cw σ 0 0 6).toInt64 else ((100 : Int32) - cw σ 0 0 6).toInt64), nI (i + 1)))
          cases hasB s (nI i) <;> rfl
        · unfold X7_odds_L96
          exact if_pos (nI_le (Nat.le_refl n) (by omega))
      have c1 : loopO (X1_odds_L59 σ (nI n) b (hunF n)) FU (0, 0) = some (odF (cw σ 0) n b (2 ^ n)) := by
        refine loopO_run (step := X1_odds_L59 σ (nI n) b (hunF n)) (fun s => (odF (cw σ 0) n b s, nI s)) (2 ^ n) (by unfold FU; omega) (fun s hs => ?_) ?_
        · unfold X1_odds_L59
          simp only []
          obtain ⟨-, g2⟩ := bits_8 s (by omega)
          rw [o1, if_neg (nI_ge hs (by omega)), nI_1]
          show _ = some (Sum.inl (odF (cw σ 0) n b s + (match J16_bitCount (nI s) with | some v => if b ≤ v then prF (cw σ 0) (nI s) 1 n else 0 | none => 0), nI (s + 1)))
          cases eg : J16_bitCount (nI s) with
          | none => exact absurd eg g2
          | some v =>
            rw [obs]
            by_cases c5 : b ≤ v
            · rw [if_pos c5, b1, obs, obs, obs]
              simp only [if_pos c5]
            · rw [if_neg c5, obs]
              simp only [if_neg c5, Int64.add_zero]
        · unfold X1_odds_L59
          rw [o1]
          exact if_pos (nI_le (Nat.le_refl _) (by omega))
      have c7 : loopO (X7_odds_L69 τ1 (nI n) b (hunF n)) FU (0, 0) = some (odF (cw σ 0) n b (2 ^ n)) := by
        refine loopO_run (step := X7_odds_L69 τ1 (nI n) b (hunF n)) (fun s => (odF (cw σ 0) n b s, nI s)) (2 ^ n) (by unfold FU; omega) (fun s hs => ?_) ?_
        · unfold X7_odds_L69 X7_odds_J69_91
          simp only []
          obtain ⟨g1, g2⟩ := bits_8 s (by omega)
          rw [o1, if_neg (nI_ge hs (by omega)), g1, b7, b7, prF_0, nI_1]
          show _ = some (Sum.inl (odF (cw σ 0) n b s + (match J16_bitCount (nI s) with | some v => if b ≤ v then prF (cw σ 0) (nI s) 1 n else 0 | none => 0), nI (s + 1)))
          cases eg : J16_bitCount (nI s) with
          | none => exact absurd eg g2
          | some v =>
            rw [obs]
            by_cases c5 : b ≤ v
            · rw [if_pos c5, obs, obs, obs]
              simp only [if_pos c5]
            · rw [if_neg c5, obs, obs, obs]
              simp only [if_neg c5]
        · unfold X7_odds_L69
          rw [o1]
          exact if_pos (nI_le (Nat.le_refl _) (by omega))
      unfold dnzL
      rw [a1, obs, c1, obs, a7, obs, c7, obs, if_neg (hunF_nz n hn), obs, obs]
      exact .ok h1 z0 rfl rfl
    · rw [nBf c2, if_pos b01F, if_pos b01F]
      exact no
  · rw [nBf c, if_pos b01F, if_pos b01F]
    exact no
theorem X1_likens_s {a b : Nat} (ha : a < 8) (hb : b < 8) : X1_likens σ (nI a) (nI b) = some (b01 (lkB (cw σ 0) a b)) := by
  unfold X1_likens lkB
  rw [ldN ha (by decide), ldN hb (by decide), ldN ha (by decide), ldN hb (by decide), ldN ha (by decide), ldN hb (by decide), ldN ha (by decide), ldN hb (by decide)]
  simp only [obs]
  by_cases c1 : cw σ 0 16 a = cw σ 0 16 b
  · rw [if_pos c1, decide_eq_true c1, Bool.true_and]
    by_cases c2 : cw σ 0 17 a = cw σ 0 17 b
    · rw [if_pos c2, decide_eq_true c2, Bool.true_and]
      by_cases c3 : cw σ 0 18 a = cw σ 0 18 b
      · rw [if_pos c3, decide_eq_true c3, Bool.true_and]
        by_cases c4 : cw σ 0 19 a = cw σ 0 19 b
        · rw [if_pos c4, decide_eq_true c4]; rfl
        · rw [if_neg c4, decide_eq_false c4]; rfl
      · rw [if_neg c3, decide_eq_false c3]; rfl
    · rw [if_neg c2, decide_eq_false c2]; rfl
  · rw [if_neg c1, decide_eq_false c1]; rfl
theorem T_areAlike {w : Mm} (hr : WR w (τ 0)) {a b : Nat} (ha : a < 8) (hb : b < 8) : X7_areAlike τ (nI a) (nI b) = some (b01 (lkB w a b)) := by
  unfold X7_areAlike
  have st : ∀ (k : Nat) (acc : Bool), k < 4 → ∀ x y, X7_of τ (nI a) (nI k) = some x → X7_of τ (nI b) (nI k) = some y → X7_areAlike_L5 τ (nI a) (nI b) (b01 acc, nI k) = some (.inl (b01 (acc && decide (x = y)), nI (k + 1))) := by
    intro k acc hk x y ex ey
    unfold X7_areAlike_L5
    simp only []
    rw [if_neg (show ¬ (3 : Int32) < nI k from fun q => by
      have := (nI_ltI (a := 3) (by decide) (by omega)).mp q
      omega), ex, ey, nI_1]
    simp only [obs]
    cases acc with
    | false => rfl
    | true =>
      rw [if_neg b01T]
      by_cases c : x = y
      · rw [if_pos c, decide_eq_true c]; rfl
      · rw [if_neg c, decide_eq_false c]; rfl
  have key : loopO (X7_areAlike_L5 τ (nI a) (nI b)) FU (1, 0) = some (b01 (lkB w a b)) := by
    refine loopO_run (step := X7_areAlike_L5 τ (nI a) (nI b)) (fun k => (b01 (match k with | 0 => true | 1 => true && decide (w 16 a = w 16 b) | 2 => (true && decide (w 16 a = w 16 b)) && decide (w 17 a = w 17 b) | 3 => ((true && decide (w 16 a = w 16 b)) && decide (w 17 a = w 17 b)) && decide (w 18 a = w 18 b) | _ => lkB w a b), nI k)) 4 (by decide) (fun k hk => ?_) ?_
    · match k, hk with
      | 0, _ => exact st 0 true (by decide) _ _ (T_of0 hr ha) (T_of0 hr hb)
      | 1, _ => exact st 1 _ (by decide) _ _ (T_of1 hr ha) (T_of1 hr hb)
      | 2, _ => exact st 2 _ (by decide) _ _ (T_of2 hr ha) (T_of2 hr hb)
      | 3, _ =>
        refine (st 3 _ (by decide) _ _ (T_of3 hr ha) (T_of3 hr hb)).trans ?_
        show some (Sum.inl (b01 (((( true && decide (w 16 a = w 16 b)) && decide (w 17 a = w 17 b)) && decide (w 18 a = w 18 b)) && decide (w 19 a = w 19 b)), nI 4)) = some (Sum.inl (b01 (lkB w a b), nI 4))
        unfold lkB
        rw [Bool.true_and, Bool.and_assoc, Bool.and_assoc]
    · unfold X7_areAlike_L5
      exact if_pos (show (3 : Int32) < nI 4 by decide)
  rw [key, obs, zb_b01, obs]
theorem S_alike (h : Sys Λ Λn σ τ) : CallR Λ Λn σ (X1_alike σ) (X7_alike τ) := by
  have w0 := h.wr0 0
  obtain ⟨e, hD⟩ := h.1.D
  have k1 : X1_alike σ = some (sumI (nD (cw σ 0)) (fun a => sumI a (fun b => b01 (lkB (cw σ 0) a b)))) := by
    unfold X1_alike
    refine ob1 (loop_sum (fun a => sumI a (fun b => b01 (lkB (cw σ 0) a b))) (nD (cw σ 0)) (FU8 hD) (fun a acc ha => ?_) (fun acc => ?_)) rfl
    · have inner : loopO (X1_alike_L17 σ (nI a)) FU (acc, 0) = some (acc + sumI a (fun b => b01 (lkB (cw σ 0) a b))) := by
        refine Eq.trans ?_ (loopO_run (step := X1_alike_L17 σ (nI a)) (fun b => (acc + sumI b (fun b => b01 (lkB (cw σ 0) a b)), nI b)) a (FU8 (by omega)) (fun b hb => ?_) ?_)
        · rw [show sumI 0 (fun b => b01 (lkB (cw σ 0) a b)) = 0 from rfl, Int32.add_zero]
          rfl
        · unfold X1_alike_L17
          simp only []
          rw [if_neg (nI_ge hb (by omega)), X1_likens_s (by omega) (by omega), obs, nI_1]
          show _ = some (Sum.inl (acc + (sumI b (fun b => b01 (lkB (cw σ 0) a b)) + b01 (lkB (cw σ 0) a b)), nI (b + 1)))
          rw [← Int32.add_assoc]
          cases lkB (cw σ 0) a b <;> rfl
        · unfold X1_alike_L17
          exact if_pos (nI_le (Nat.le_refl _) (by omega))
      unfold X1_alike_L4
      simp only []
      rw [if_neg (by rw [e]; exact nI_ge ha (by omega)), inner, obs, nI_1, obs]
    · unfold X1_alike_L4
      rw [if_pos (by rw [e]; exact nI_le (Nat.le_refl _) (by omega))]
  have k7 : loopO (X7_alike_L9 (mup τ 10 0 0)) FU (0, 0) = some (sumI (nD (cw σ 0)) (fun a => sumI (nD (cw σ 0)) (fun b => if a < b then b01 (lkB (cw σ 0) a b) else 0))) := by
    refine loop_sum (fun a => sumI (nD (cw σ 0)) (fun b => if a < b then b01 (lkB (cw σ 0) a b) else 0)) (nD (cw σ 0)) (FU8 hD) (fun a acc ha => ?_) (fun acc => ?_)
    · have inner : loopO (X7_alike_L23 (mup τ 10 0 0) (nI a)) FU (acc, nI (a + 1)) = some (acc + sumI (nD (cw σ 0)) (fun b => if a < b then b01 (lkB (cw σ 0) a b) else 0)) := by
        refine Eq.trans ?_ ((loopO_run (step := X7_alike_L23 (mup τ 10 0 0) (nI a)) (ex := acc + sumI (a + 1 + (nD (cw σ 0) - (a + 1))) (fun b => if a < b then b01 (lkB (cw σ 0) a b) else 0)) (fun i => (acc + sumI (a + 1 + i) (fun b => if a < b then b01 (lkB (cw σ 0) a b) else 0), nI (a + 1 + i))) (nD (cw σ 0) - (a + 1)) (FU8 (by omega)) (fun i hi => ?_) ?_).trans ?_)
        · rw [Nat.add_zero, sumI_gt0, Int32.add_zero]
        · unfold X7_alike_L23
          simp only []
          rw [if_neg (by rw [T_n5 w0 h.1]; exact nI_ge (by omega) (by omega)), T_areAlike w0 (by omega) (by omega), obs, nI_1]
          show _ = some (Sum.inl (acc + (sumI (a + 1 + i) (fun b => if a < b then b01 (lkB (cw σ 0) a b) else 0) + (if a < a + 1 + i then b01 (lkB (cw σ 0) a (a + 1 + i)) else 0)), nI (a + 1 + i + 1)))
          rw [← Int32.add_assoc, if_pos (show a < a + 1 + i by omega)]
          cases lkB (cw σ 0) a (a + 1 + i) <;> rfl
        · unfold X7_alike_L23
          rw [if_pos (by rw [T_n5 w0 h.1]; exact nI_le (by omega) (by omega))]
        · rw [show a + 1 + (nD (cw σ 0) - (a + 1)) = nD (cw σ 0) by omega]
      unfold X7_alike_L9
      simp only []
      rw [if_neg (by rw [T_n5 w0 h.1]; exact nI_ge ha (by omega)), nI_1, obs, inner, obs, obs]
    · unfold X7_alike_L9
      rw [if_pos (by rw [T_n5 w0 h.1]; exact nI_le (Nat.le_refl _) (by omega))]
  have eq : sumI (nD (cw σ 0)) (fun a => sumI (nD (cw σ 0)) (fun b => if a < b then b01 (lkB (cw σ 0) a b) else 0)) = sumI (nD (cw σ 0)) (fun a => sumI a (fun b => b01 (lkB (cw σ 0) a b))) := by
    rw [sumI_swap]
    refine sumI_ext (fun b hb => ?_)
    rw [sumI_lt (n := nD (cw σ 0)) (a := b) (by omega)]
    exact sumI_ext (fun a ha => by rw [lkB_sym])
  unfold X7_alike
  rw [obs, k7, obs, eq, k1]
  exact ⟨_, _, rfl, rfl, h.t0 0⟩
end AT
