/-! PURE: sets of blank deeds: subsets, readings, worth -/
def subB (n b : Nat) : Bool := decide ((nI n &&& (nI b ^^^ -1)) = 0)
theorem bt_nI (n i : Nat) (hi : i < 32) : bt (nI n) i = n.testBit i := by
  show (BitVec.ofNat 32 n).getLsbD i = n.testBit i
  rw [BitVec.getLsbD_ofNat]
  simp [hi]
theorem subB_iff {n b : Nat} (hn : n < 256) (hb : b < 256) : subB n b = true ↔ n &&& b = n := by
  unfold subB
  rw [decide_eq_true_iff]
  constructor
  · intro h
    refine Nat.eq_of_testBit_eq (fun i => ?_)
    rw [Nat.testBit_and]
    by_cases hi : i < 32
    · have h1 : bt (nI n &&& (nI b ^^^ -1)) i = false := by rw [h, b_0]
      rw [b_and, b_xor, b_m1 i hi, bt_nI n i hi, bt_nI b i hi] at h1
      cases e1 : n.testBit i <;> cases e2 : b.testBit i <;> simp_all
    · have : n.testBit i = false := Nat.testBit_lt_two_pow (Nat.lt_of_lt_of_le hn (Nat.le_trans (by decide : (256 : Nat) ≤ 2 ^ 32) (Nat.pow_le_pow_right (by decide) (by omega))))
      rw [this]
      rfl
  · intro h
    apply b_ext
    intro i hi
    rw [b_and, b_xor, b_m1 i hi, bt_nI n i hi, bt_nI b i hi, b_0]
    have := congrArg (fun x => Nat.testBit x i) h
    simp only [Nat.testBit_and] at this
    cases e1 : n.testBit i <;> cases e2 : b.testBit i <;> simp_all
theorem sub_le {n b : Nat} (hn : n < 256) (hb : b < 256) (h : subB n b = true) : n ≤ b := by
  have := (subB_iff hn hb).mp h
  rw [← this]
  exact Nat.and_le_right
theorem sub_0 {b : Nat} (hb : b < 256) : subB 0 b = true := (subB_iff (by decide) hb).mpr (Nat.zero_and b)
/-- the scans -/
def csV (L : Nat → (Nat → Int32) → Int32) (w : Mm) (set : Int32) : Int32 := sumI (nD w) (fun d => if hasB set (nI d) = true then costV L w d else 0)
def woF (L : Nat → (Nat → Int32) → Int32) (w : Mm) (p c : Int32) (b : Nat) : Nat → Int32 × Int32
  | 0 => (0, -100000000)
  | n + 1 => if subB n b = true ∧ csV L w (nI n) ≤ c ∧ (woF L w p c b n).2 < netV w p (nI n) - csV L w (nI n) then (nI n, netV w p (nI n) - csV L w (nI n)) else woF L w p c b n
theorem woF_end {L : Nat → (Nat → Int32) → Int32} {w : Mm} {p c : Int32} {b : Nat} (hb : b < 256) : ∀ k, b + 1 + k ≤ 256 → woF L w p c b (b + 1 + k) = woF L w p c b (b + 1) := by
  intro k
  induction k with
  | zero => exact fun _ => rfl
  | succ k ih =>
    intro hk
    rw [← ih (by omega)]
    show (if subB (b + 1 + k) b = true ∧ _ ∧ _ then _ else _) = _
    rw [if_neg (fun q => by have := sub_le (by omega) hb q.1; omega)]
    rfl
theorem netT_bI {w : Mm} (h : WI w) {p r : Int32} {d : Nat} (hd : d < nD w) : bI (ntV w p r d) 99 := by
  obtain ⟨k, hk, e⟩ := h.sum hd
  have b1 : bI (w 19 d) 99 := by rw [e]; exact bI_nI hk (by decide)
  unfold ntV
  repeat' split
  all_goals first | exact bI_0 | exact b1 | exact (bI_neg b1 (by decide)).2
theorem netV_bI {w : Mm} (h : WI w) {p r : Int32} : bI (netV w p r) 792 := by
  have hD := h.D.2
  exact (bI_sum (c := 99) (fun i hi => netT_bI h hi) (by omega)).mono (by omega)
section AP
variable {Λ : Nat → Nat → (Nat → Int32) → Int32} {Λn : Nat → Int32} {σ : Cs} {τ : Mm}
theorem costsOfSet_s (h : WI (cw σ 0)) (hΛ : LamOK Λ (cl σ 0)) (set : Int32) : ∃ f, X1_costsOfSet Λ σ set = some (csV (lawF Λ (cl σ 0)) (cw σ 0) set, sc3 σ f) := by
  obtain ⟨e, hD⟩ := h.D
  unfold X1_costsOfSet
  have key : Rn (loopO (X1_costsOfSet_L4 Λ set) FU (σ, 0, 0)) (fun x => ∃ f, x = (sc3 σ f, csV (lawF Λ (cl σ 0)) (cw σ 0) set)) := by
    refine loopO_inv (fun i (s : Cs × Int32 × Int32) => ∃ f, s = (sc3 σ f, sumI i (fun d => if hasB set (nI d) = true then costV (lawF Λ (cl σ 0)) (cw σ 0) d else 0), nI i)) _ (nD (cw σ 0)) (FU8 hD) (fun i s hi hs => ?_) ⟨co σ 3, by rw [sc3_self]; rfl⟩
    obtain ⟨f, rfl⟩ := hs
    unfold X1_costsOfSet_L4
    simp only []
    rw [cw_sc3, e]
    rcases Nat.lt_or_ge i (nD (cw σ 0)) with hlt | hge
    · obtain ⟨g, e1⟩ := X1_costsOf_s (Λ := Λ) (σ := sc3 σ f) (k := 0) (d := i) (by rw [cw_sc3]; exact h) (by rw [cw_sc3]; exact hlt) (by rw [cl_sc3]; exact hΛ)
      rw [cw_sc3, cl_sc3, sc3_sc3] at e1
      rw [if_neg (nI_ge hlt (by omega)), has_s, obs, e1, nI_1]
      simp only [obs]
      have es : sumI (i + 1) (fun d => if hasB set (nI d) = true then costV (lawF Λ (cl σ 0)) (cw σ 0) d else 0) = sumI i (fun d => if hasB set (nI d) = true then costV (lawF Λ (cl σ 0)) (cw σ 0) d else 0) + (if hasB set (nI i) = true then costV (lawF Λ (cl σ 0)) (cw σ 0) i else 0) := rfl
      by_cases c : hasB set (nI i) = true
      · rw [c, if_neg b01T]
        rw [if_pos c] at es
        exact Rn.mk (Or.inl ⟨_, rfl, hlt, g, by rw [es]⟩)
      · rw [nBf c, if_pos b01F]
        rw [if_neg c] at es
        exact Rn.mk (Or.inl ⟨_, rfl, hlt, f, by rw [es]⟩)
    · have : i = nD (cw σ 0) := by omega
      subst this
      rw [if_pos (nI_le (Nat.le_refl _) (by omega))]
      exact Rn.mk (Or.inr ⟨_, rfl, f, rfl⟩)
  obtain ⟨x, e1, f, rfl⟩ := key
  exact ⟨f, by rw [e1, obs]⟩
theorem T_costsOfAll {w : Mm} {L : Nat → (Nat → Int32) → Int32} (hr : WR w (τ 0)) (h : WI w) (hL : LR L (τ 0)) (set : Int32) : Rn (X7_costsOfAll τ set) (fun x => x.1 = csV L w set ∧ Tr τ x.2 w) := by
  obtain ⟨e, hD⟩ := h.D
  unfold X7_costsOfAll
  have key : Rn (loopO (X7_costsOfAll_L4 set) FU (τ, 0, 0)) (fun x => Tr τ x.1 w ∧ x.2 = csV L w set) := by
    refine loopO_inv (fun i (s : Mm × Int32 × Int32) => Tr τ s.1 w ∧ s.2 = (sumI i (fun d => if hasB set (nI d) = true then costV L w d else 0), nI i)) _ (nD w) (FU8 hD) (fun i s hi hs => ?_) ⟨Tr.rf hr, rfl⟩
    obtain ⟨s1, s2⟩ := s
    obtain ⟨t, hx⟩ := hs
    simp only at t hx
    subst hx
    unfold X7_costsOfAll_L4
    simp only []
    rw [T_n5 t.1 h]
    rcases Nat.lt_or_ge i (nD w) with hlt | hge
    · obtain ⟨τ', e1, t2, -, e3⟩ := T_asks t.1 h hlt (hL.congr t.2.1)
      have ec : X7_costsOf s1 (nI i) = some (costV L w i, τ') := by
        unfold X7_costsOf
        rw [e1, obs, e3]
      rw [if_neg (nI_ge hlt (by omega)), isOf_s, obs, ec, nI_1]
      simp only [obs]
      have es : sumI (i + 1) (fun d => if hasB set (nI d) = true then costV L w d else 0) = sumI i (fun d => if hasB set (nI d) = true then costV L w d else 0) + (if hasB set (nI i) = true then costV L w i else 0) := rfl
      by_cases c : hasB set (nI i) = true
      · rw [c, if_neg b01T]
        rw [if_pos c] at es
        exact Rn.mk (Or.inl ⟨_, rfl, hlt, t.tr t2, by rw [es]⟩)
      · rw [nBf c, if_pos b01F]
        rw [if_neg c] at es
        exact Rn.mk (Or.inl ⟨_, rfl, hlt, t, by rw [es]⟩)
    · have : i = nD w := by omega
      subst this
      rw [if_pos (nI_le (Nat.le_refl _) (by omega))]
      exact Rn.mk (Or.inr ⟨_, rfl, t, rfl⟩)
  obtain ⟨x, e1, t, ex⟩ := key
  exact Rn.of (by rw [e1, obs]) ⟨ex, t⟩
theorem csV_0 {L : Nat → (Nat → Int32) → Int32} {w : Mm} (h : WI w) : csV L w 0 = 0 := by
  unfold csV
  have hD := h.D.2
  have : ∀ n, n ≤ 8 → sumI n (fun d => if hasB 0 (nI d) = true then costV L w d else 0) = 0 := by
    intro n
    induction n with
    | zero => exact fun _ => rfl
    | succ n ih =>
      intro hn
      show sumI n _ + (if hasB 0 (nI n) = true then _ else _) = 0
      rw [ih (by omega), hasB_bt _ (by omega), b_0, if_neg (by decide)]
      rfl
  exact this _ hD
theorem S_worth (h : Sys Λ Λn σ τ) (a b q : Int32) : CallX Λ Λn (cdx [0, 1]) (X1_worth Λ σ a b q) (X7_worth τ a b q) := by
  unfold X1_worth X7_worth X7_worth_J29
  rw [X1_partyAt_s, T_isParty h.2.1, obs, obs]
  by_cases c : inB a 0 (cw σ 0 0 1 - 1) = true
  · rw [if_pos c, c, if_neg b01T]
    simp only [Sum.elim_inl]
    rw [in_s, isIn_s, obs, obs, X1_demand_s, obs]
    by_cases c2 : inB b 0 999 = true
    · rw [if_pos c2, c2, if_neg b01T, obs, if_pos t00, Option.elim_none]
      have h1 := h.t0 0
      have z0 : mup τ 10 0 0 10 0 = 0 := mup_s
      generalize mup τ 10 0 0 = τ1 at h1 z0
      have hD := h.1.D.2
      have hb0 : (0 : Int32) ≤ b := by
        unfold inB at c2
        simp only [Bool.and_eq_true, Bool.not_eq_true', decide_eq_false_iff_not] at c2
        exact Int32.not_lt.mp c2.1
      obtain ⟨B, hB, eB⟩ := sBits_N (nD (cw σ 0)) hD (fun d => decide (cw σ 0 26 d = 0))
      have B8 : B < 256 := Nat.lt_of_lt_of_le hB (Nat.pow_le_pow_right (by decide) hD)
      have eb : stB (cw σ 0) 0 = nI B := eB
      rw [X2_of_s h.1, obs, eb, T_netOf h.1 h1.2.1, obs]
      have k1 : Rn (loopO (X1_worth_L37 Λ a b q (nI B)) FU (σ, 0, -100000000, 0)) (fun x => sS σ x.1 ∧ x.2 = woF (lawF Λ (cl σ 0)) (cw σ 0) a b B (B + 1)) := by
        refine loopO_inv (fun n (s : Cs × Int32 × Int32 × Int32) => ∃ f, s = (sc3 σ f, (woF (lawF Λ (cl σ 0)) (cw σ 0) a b B n).1, (woF (lawF Λ (cl σ 0)) (cw σ 0) a b B n).2, nI n)) _ (B + 1) (by unfold FU; omega) (fun n s hn hs => ?_) ⟨co σ 3, by rw [sc3_self]; rfl⟩
        obtain ⟨f, rfl⟩ := hs
        unfold X1_worth_L37
        simp only []
        by_cases cn : n = B + 1
        · subst cn
          rw [if_pos (nI_lt (by omega) (by omega))]
          exact Rn.mk (Or.inr ⟨_, rfl, sS.sc3, rfl⟩)
        · obtain ⟨g, e1⟩ := costsOfSet_s (Λ := Λ) (σ := sc3 σ f) (by rw [cw_sc3]; exact h.1) (by rw [cl_sc3]; exact h.lam) (nI n)
          rw [cw_sc3, cl_sc3, sc3_sc3] at e1
          have es : woF (lawF Λ (cl σ 0)) (cw σ 0) a b B (n + 1) = if subB n B = true ∧ csV (lawF Λ (cl σ 0)) (cw σ 0) (nI n) ≤ b ∧ (woF (lawF Λ (cl σ 0)) (cw σ 0) a b B n).2 < netV (cw σ 0) a (nI n) - csV (lawF Λ (cl σ 0)) (cw σ 0) (nI n) then (nI n, netV (cw σ 0) a (nI n) - csV (lawF Λ (cl σ 0)) (cw σ 0) (nI n)) else woF (lawF Λ (cl σ 0)) (cw σ 0) a b B n := rfl
          rw [if_neg (nI_nlt (by omega) (by omega)), e1, nI_1]
          have e5 := X5_net_s (σ := sc3 σ g) (by rw [cw_sc3]; exact h.1) a (nI n)
          rw [cw_sc3] at e5
          simp only [obs]
          by_cases c3 : (nI n &&& (nI B ^^^ -1)) = 0
          · have c3' : subB n B = true := decide_eq_true c3
            rw [if_pos c3]
            by_cases c4 : csV (lawF Λ (cl σ 0)) (cw σ 0) (nI n) ≤ b
            · rw [if_pos c4, e5]
              simp only [obs]
              by_cases c5 : (woF (lawF Λ (cl σ 0)) (cw σ 0) a b B n).2 < netV (cw σ 0) a (nI n) - csV (lawF Λ (cl σ 0)) (cw σ 0) (nI n)
              · rw [if_pos c5]
                rw [if_pos ⟨c3', c4, c5⟩] at es
                exact Rn.mk (Or.inl ⟨_, rfl, by omega, g, by rw [es]⟩)
              · rw [if_neg c5]
                rw [if_neg (fun q => c5 q.2.2)] at es
                exact Rn.mk (Or.inl ⟨_, rfl, by omega, g, by rw [es]⟩)
            · rw [if_neg c4]
              rw [if_neg (fun q => c4 q.2.1)] at es
              exact Rn.mk (Or.inl ⟨_, rfl, by omega, g, by rw [es]⟩)
          · rw [if_neg c3]
            rw [if_neg (fun q => c3 (of_decide_eq_true q.1))] at es
            exact Rn.mk (Or.inl ⟨_, rfl, by omega, g, by rw [es]⟩)
      have w1 : woF (lawF Λ (cl σ 0)) (cw σ 0) a b B 1 = (0, netV (cw σ 0) a 0) := by
        have cz : csV (lawF Λ (cl σ 0)) (cw σ 0) (nI 0) = 0 := csV_0 h.1
        have nb := netV_bI h.1 (p := a) (r := 0)
        show (if subB 0 B = true ∧ csV (lawF Λ (cl σ 0)) (cw σ 0) (nI 0) ≤ b ∧ (-100000000 : Int32) < netV (cw σ 0) a (nI 0) - csV (lawF Λ (cl σ 0)) (cw σ 0) (nI 0) then (nI 0, netV (cw σ 0) a (nI 0) - csV (lawF Λ (cl σ 0)) (cw σ 0) (nI 0)) else ((0 : Int32), (-100000000 : Int32))) = _
        rw [cz, Int32.sub_zero, if_pos ⟨sub_0 B8, hb0, by
          rw [Int32.lt_iff_toInt_lt, show (-100000000 : Int32).toInt = -100000000 from rfl]
          have := nb.1
          show -100000000 < (netV (cw σ 0) a 0).toInt
          omega⟩]
        rfl
      have k7 : Rn (loopO (X7_worth_L55 a b q) FU (τ1, 0, netV (cw σ 0) a 0, 1)) (fun x => Tr τ1 x.1 (cw σ 0) ∧ x.2 = woF (lawF Λ (cl σ 0)) (cw σ 0) a b B 256) := by
        refine loopO_inv (fun k (s : Mm × Int32 × Int32 × Int32) => Tr τ1 s.1 (cw σ 0) ∧ s.2 = ((woF (lawF Λ (cl σ 0)) (cw σ 0) a b B (k + 1)).1, (woF (lawF Λ (cl σ 0)) (cw σ 0) a b B (k + 1)).2, nI (k + 1))) _ 255 (by decide) (fun k s hk hs => ?_) ⟨Tr.rf h1.2.1, by rw [w1]; rfl⟩
        obtain ⟨s1, s2⟩ := s
        obtain ⟨t, hx⟩ := hs
        simp only at t hx
        subst hx
        unfold X7_worth_L55
        simp only []
        by_cases cn : k = 255
        · subst cn
          rw [if_pos (by decide)]
          exact Rn.mk (Or.inr ⟨_, rfl, t, rfl⟩)
        · have es : woF (lawF Λ (cl σ 0)) (cw σ 0) a b B (k + 1 + 1) = if subB (k + 1) B = true ∧ csV (lawF Λ (cl σ 0)) (cw σ 0) (nI (k + 1)) ≤ b ∧ (woF (lawF Λ (cl σ 0)) (cw σ 0) a b B (k + 1)).2 < netV (cw σ 0) a (nI (k + 1)) - csV (lawF Λ (cl σ 0)) (cw σ 0) (nI (k + 1)) then (nI (k + 1), netV (cw σ 0) a (nI (k + 1)) - csV (lawF Λ (cl σ 0)) (cw σ 0) (nI (k + 1))) else woF (lawF Λ (cl σ 0)) (cw σ 0) a b B (k + 1) := rfl
          have hL := h1.2.2.1.1
          obtain ⟨⟨v1, t1⟩, e1, ev1, g1⟩ := T_costsOfAll t.1 h.1 (hL.congr t.2.1) (nI (k + 1))
          simp only at ev1 g1
          subst ev1
          have tg := t.tr g1
          obtain ⟨⟨v2, t2⟩, e2, ev2, g2⟩ := T_costsOfAll tg.1 h.1 (hL.congr tg.2.1) (nI (k + 1))
          simp only at ev2 g2
          subst ev2
          rw [if_neg (show ¬ (256 : Int32) ≤ nI (k + 1) from nI_ge (b := 256) (by omega) (by decide)), T_inState t.1 h.1, obs, eb, e1, nI_1]
          simp only [obs]
          by_cases c3 : (nI (k + 1) &&& (nI B ^^^ -1)) = 0
          · have c3' : subB (k + 1) B = true := decide_eq_true c3
            rw [if_pos c3]
            by_cases c4 : csV (lawF Λ (cl σ 0)) (cw σ 0) (nI (k + 1)) ≤ b
            · rw [if_pos c4, T_netOf h.1 tg.1, obs, e2]
              simp only [obs]
              by_cases c5 : (woF (lawF Λ (cl σ 0)) (cw σ 0) a b B (k + 1)).2 < netV (cw σ 0) a (nI (k + 1)) - csV (lawF Λ (cl σ 0)) (cw σ 0) (nI (k + 1))
              · rw [if_pos c5]
                rw [if_pos ⟨c3', c4, c5⟩] at es
                exact Rn.mk (Or.inl ⟨_, rfl, by omega, tg.tr g2, by rw [es]⟩)
              · rw [if_neg c5]
                rw [if_neg (fun q => c5 q.2.2)] at es
                exact Rn.mk (Or.inl ⟨_, rfl, by omega, tg.tr g2, by rw [es]⟩)
            · rw [if_neg c4]
              rw [if_neg (fun q => c4 q.2.1)] at es
              exact Rn.mk (Or.inl ⟨_, rfl, by omega, tg, by rw [es]⟩)
          · rw [if_neg c3]
            rw [if_neg (fun q => c3 (of_decide_eq_true q.1))] at es
            exact Rn.mk (Or.inl ⟨_, rfl, by omega, t, by rw [es]⟩)
      obtain ⟨⟨x1, x2⟩, e1, g1, gx⟩ := k1
      obtain ⟨⟨y1, y2⟩, e2, g2, gy⟩ := k7
      simp only at g1 gx g2 gy
      have ee : woF (lawF Λ (cl σ 0)) (cw σ 0) a b B 256 = woF (lawF Λ (cl σ 0)) (cw σ 0) a b B (B + 1) := by
        have := woF_end (L := lawF Λ (cl σ 0)) (w := cw σ 0) (p := a) (c := b) B8 (255 - B) (by omega)
        rw [show B + 1 + (255 - B) = 256 by omega] at this
        exact this
      rw [ee] at gy
      subst gx gy
      rw [e1, e2, obs, obs]
      have s := (h1.trT g2).sc g1 sT.rf
      have z : y1 10 0 = 0 := (g2.2.2.2.1 0 rfl).trans z0
      by_cases c6 : q = 0
      · rw [if_pos c6, if_pos c6]
        exact .ok s z rfl rfl
      · rw [if_neg c6, if_neg c6]
        exact .ok s z rfl rfl
    · rw [if_neg c2, nBf c2, if_pos b01F, obs, if_neg (t01 (by decide)), Option.elim_some]
      exact .er0 h rfl (by decide) rfl rfl
  · rw [if_neg c, nBf c, if_pos b01F, obs, if_neg (t01 (by decide))]
    simp only [Sum.elim_inr]
    exact .er0 h rfl (by decide) rfl rfl
end AP
