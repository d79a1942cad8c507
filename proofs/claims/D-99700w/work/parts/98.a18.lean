/-! PURE: warmed; small questions -/
section AF
variable {Λ : Nat → Nat → (Nat → Int32) → Int32} {Λn : Nat → Int32} {σ : Cs} {τ : Mm}
theorem Sys.trT {τ' : Mm} (h : Sys Λ Λn σ τ) (t : Tr τ τ' (cw σ 0)) : Sys Λ Λn σ τ' := by
  have := h.wldT h.1 t
  rw [cwu_self] at this
  exact this
theorem S_costs (h : Sys Λ Λn σ τ) {d : Nat} (hd : d < nD (cw σ 0)) : ∃ f τ', X1_costsOf Λ σ 0 (nI d) = some (costV (lawF Λ (cl σ 0)) (cw σ 0) d, sc3 σ f) ∧ X7_costsOf τ (nI d) = some (costV (lawF Λ (cl σ 0)) (cw σ 0) d, τ') ∧ Sys Λ Λn (sc3 σ f) τ' ∧ τ' 10 0 = τ 10 0 := by
  obtain ⟨f, e1⟩ := X1_costsOf_s (k := 0) h.1 hd h.lam
  obtain ⟨τ', e2, t, -, e3⟩ := T_asks h.2.1 h.1 hd h.2.2.1.1
  refine ⟨f, τ', e1, ?_, (h.trT t).sc sS.sc3 sT.rf, t.2.2.2.1 0 rfl⟩
  unfold X7_costsOf
  rw [e2, obs, e3]
theorem S_warm (h : Sys Λ Λn σ τ) (a b : Int32) : CallX Λ Λn (cdx [0, 2]) (X1_warm Λ σ a b) (X7_warm τ a b) := by
  unfold X1_warm X7_warm X7_warm_J17
  rw [X1_deedAt_s, T_isDeed h.2.1, obs, obs]
  have bad : CallX Λ Λn (cdx [0, 2]) (some (.inr (0, σ))) (X7_warm_J22 τ a b 1) := by
    unfold X7_warm_J22
    rw [obs, if_neg (t01 (by decide))]
    exact .er0 h rfl (by decide) rfl rfl
  by_cases c : inB a 0 (cw σ 0 0 3 - 1) = true
  · rw [if_pos c, c, if_neg b01T, T_isParty h.2.1, obs]
    simp only [Sum.elim_inl]
    rw [obs, uk_self, X1_partyAt_s, obs]
    by_cases c2 : inB b 0 (cw σ 0 0 1 - 1) = true
    · rw [if_pos c2, c2, if_neg b01T]
      simp only [Sum.elim_inl]
      rw [obs, uk_self]
      obtain ⟨d, hd, rfl⟩ := inB_D h.1 c
      obtain ⟨p, hp, rfl⟩ := inB_P h.1 c2
      have hD := h.1.D.2
      have hP := h.1.P.2
      obtain ⟨f, τ1, e1, e2, h1, z1⟩ := S_costs (h.t0 0) hd
      unfold X7_warm_J22 X7_warm_J60 X1_warm_J47
      rw [e1, obs, obs, uk_sc3, obs, if_pos t00, e2, obs, cw_sc3, ldN (by omega) (by decide), ldN (by omega) (by decide), T_of10 h1.2.1 (by omega), T_coin h1.2.1 (by omega), obs, obs, obs, obs, cw_sc3]
      generalize costV (lawF Λ (cl σ 0)) (cw σ 0) d = C
      have h2 := h1.t0 0
      have no : CallX Λ Λn (cdx [0, 2]) (X1_warm_J48 Λ (sc3 σ f) (nI d) (nI p) C 0) (X7_warm_J65 τ1 (nI d) (nI p) C 2) := by
        unfold X1_warm_J48 X7_warm_J65
        rw [show X1_can 0 = some (some 2) from rfl, obs, Option.elim_some, obs, if_neg (t01 (by decide))]
        exact .er0 h1 rfl (by decide) rfl rfl
      by_cases c3 : cw σ 0 26 d = 0
      · rw [if_pos c3, if_pos c3]
        by_cases c4 : cw σ 0 10 p < C
        · rw [if_pos c4, if_neg (Int32.not_le.mpr c4)]
          exact no
        · rw [if_neg c4, if_pos (Int32.not_lt.mp c4)]
          unfold X1_warm_J48 X7_warm_J65
          obtain ⟨σ2, τ2, e3, e4, hs, ew, el, et, z⟩ := S_rem h2
          rw [cw_sc3] at ew
          have ep : wX 10 p = 15 + 2 * p := rfl
          have k1 : τ2 0 (15 + 2 * p) = cw σ 0 10 p := by
            rw [← ep, ← ew]
            exact (hs.2.1 10 p (by show p < 6; omega)).symm
          rw [show X1_can 1 = some none from rfl, obs, Option.elim_none, e3, obs, obs, if_pos t00, e4, obs, ew, ldN (by omega) (by decide), ix_coin, obs, stofN (by omega) (by decide), obs, obs, mset_upd, cw_cwu, ldN (by omega) (by decide), k1, obs, stoN (by omega) (by decide), obs]
          have r2 : WR (cw σ 0) (τ2 0) := by rw [← ew]; exact hs.2.1
          have t1 : Tr τ2 (mup τ2 0 (15 + 2 * p) (cw σ 0 10 p - C)) (mup (cw σ 0) 10 p (cw σ 0 10 p - C)) := Tr.put r2 (r := 10) (j := p) (by show p < 6; omega) _
          have w1 : WI (mup (cw σ 0) 10 p (cw σ 0 10 p - C)) := h.1.mup (hr0 (by decide)) (by decide) trivial
          have s1 : sameC (cw σ 0) (mup (cw σ 0) 10 p (cw σ 0 10 p - C)) := sameC_mup (hr0 (by decide))
          obtain ⟨τ3, e5, t2⟩ := T_comesUp t1.1 (d := d) (by omega)
          have w2 := wi_upW w1 d
          have t3 := t1.tr t2
          rw [X2_comesUp_s _ (by omega), obs, obs, obs, cw_cwu, cwu_cwu, e5, obs, obs]
          have n2 : nD (upW (mup (cw σ 0) 10 p (cw σ 0 10 p - C)) d) = nD (cw σ 0) := w2.2.2.2.trans s1.2.2
          have n2p : nP (upW (mup (cw σ 0) 10 p (cw σ 0 10 p - C)) d) = nP (cw σ 0) := w2.2.1.trans s1.1
          generalize upW (mup (cw σ 0) 10 p (cw σ 0 10 p - C)) d = v at w2 t3 n2 n2p t2
          have key := loop_rel (f := X1_warm_L76 Λ (cwu σ2 0 v) (nI p)) (g := X7_warm_L106 τ3 (nI p)) (fun i (s t : Int32) => s = nI (d + 1 + i) ∧ t = nI (d + 1 + i) ∧ d + 1 + i ≤ nD (cw σ 0)) (fun x y => (∃ k, k < nD (cw σ 0) ∧ x = .inl (nI k) ∧ y = nI k) ∨ (x = .inr () ∧ y = nI (nD (cw σ 0)))) 8 (FU8 (by decide)) (fun i s t hi hr => ?_) (s0 := nI d + 1) (t0 := nI d + 1) ⟨nI_1 d, nI_1 d, by omega⟩
          · obtain ⟨x, y, f1, f2, q⟩ := key
            rw [f1, obs, f2, obs, show τ3 0 5 = nI (nD (cw σ 0)) from by rw [T_n5 t3.1 w2.1, n2]]
            rcases q with ⟨k, hk, rfl, rfl⟩ | ⟨rfl, rfl⟩
            · have t4 := t3.tr (Tr.put t3.1 (wS8 (r := 24) (d := k) (by decide) (by decide) (by omega)) (v 24 k / 2))
              have w4 : WI (mup v 24 k (v 24 k / 2)) := w2.1.mup (hr0 (by decide)) (by decide) trivial
              rw [if_neg (nI_ge hk (by omega)), T_of8 t3.1 (by omega), obs, T_lays8 (by omega), obs, T_coin t4.1 (by omega), obs]
              simp only [Sum.elim_inl]
              rw [ldN (by omega) (by decide), obs, stofN (by omega) (by decide), obs, obs, mset_upd, cw_cwu, cwu_cwu, ldN (by omega) (by decide), obs]
              exact .ok (hs.wldT w4 t4) (by rw [t4.2.2.2.1 0 rfl, z, mup_s]) rfl rfl
            · rw [if_pos (nI_le (Nat.le_refl _) (by omega)), T_coin t3.1 (by omega), obs]
              simp only [Sum.elim_inr]
              rw [ldN (by omega) (by decide), obs]
              exact .ok (hs.wldT w2.1 t3) (by rw [t3.2.2.2.1 0 rfl, z, mup_s]) rfl rfl
          · obtain ⟨rfl, rfl, hle⟩ := hr
            unfold X1_warm_L76 X7_warm_L106
            rw [cw_cwu, T_n5 t3.1 w2.1, w2.1.D.1, n2]
            rcases Nat.lt_or_ge (d + 1 + i) (nD (cw σ 0)) with hlt | hge
            · rw [if_neg (nI_ge hlt (by omega)), if_neg (nI_ge hlt (by omega)), ldN (by omega) (by decide), T_of10 t3.1 (by omega)]
              simp only [obs, nI_1]
              by_cases c5 : v 26 (d + 1 + i) = 0
              · rw [if_pos c5, if_pos c5]
                exact Or.inr ⟨_, _, rfl, rfl, Or.inl ⟨_, hlt, rfl, rfl⟩⟩
              · rw [if_neg c5, if_neg c5]
                exact Or.inl ⟨_, _, rfl, rfl, by omega, rfl, rfl, by omega⟩
            · have e : d + 1 + i = nD (cw σ 0) := by omega
              rw [e, if_pos (nI_le (Nat.le_refl _) (by omega)), if_pos (nI_le (Nat.le_refl _) (by omega))]
              exact Or.inr ⟨_, _, rfl, rfl, Or.inr ⟨rfl, rfl⟩⟩
      · rw [if_neg c3, if_neg c3]
        exact no
    · rw [if_neg c2, nBf c2, if_pos b01F]
      simp only [Sum.elim_inr]
      rw [uk_self]
      exact bad
  · rw [if_neg c, nBf c, if_pos b01F]
    simp only [Sum.elim_inr]
    rw [uk_self]
    exact bad
/-! small questions -/
theorem ix_1 {a b : Nat} : nI a + nI b = nI (a + b) := nI_add a b
theorem S_damp (h : Sys Λ Λn σ τ) (a : Int32) : CallX Λ Λn (cdx [0]) (X1_damp σ a) (X7_damp τ a) := by
  unfold X1_damp X7_damp X7_damp_J15
  rw [X1_there_s, isIn_s, obs, obs, show (4 : Int32) - 1 = 3 from by decide]
  by_cases c : inB a 0 3 = true
  · obtain ⟨k, hk, rfl⟩ := inB_C (n := 3) (by decide) c
    rw [if_pos c, c, if_neg b01T, obs, if_pos t00, Option.elim_none, ldN (by omega) (by decide), obs, show (11 : Int32) = nI 11 from rfl, nI_add, ldN (by omega) (by decide), obs]
    refine .ok0 h rfl ?_
    rw [show mup τ 10 0 0 0 (11 + k) = cw σ 0 9 k from (h.wr0 0 9 k (by show k < 4; omega)).symm]
  · rw [if_neg c, nBf c, if_pos b01F, obs, if_neg (t01 (by decide)), Option.elim_some]
    exact .er0 h rfl (by decide) rfl rfl
theorem WI.logd {w : Mm} (h : WI w) : ∃ g, g ≤ 60 ∧ w 0 7 = nI g := h.1 0 7 (by decide)
theorem ofLog_s {k c : Nat} (hk : k < 60) (hc : c < 4) : X1_ofLog σ (nI k) (nI c) = some (cw σ 0 27 (4 * k + c)) := by
  unfold X1_ofLog
  rw [show (4 : Int32) = nI 4 from rfl, pk_mul, nI_add, ldN (by omega) (by decide), obs]
theorem T_logged {w : Mm} (h : WR w (τ 0)) {k c : Nat} (hk : k < 60) (hc : c < 4) : X7_logged τ (nI k) (nI c) = some (w 27 (4 * k + c)) := by
  unfold X7_logged
  rw [show (141 : Int32) = nI 141 from rfl, show (4 : Int32) = nI 4 from rfl, pk_mul, nI_add, nI_add, ldN (by omega) (by decide), obs, show τ 0 (141 + 4 * k + c) = w 27 (4 * k + c) from by rw [h 27 (4 * k + c) (by show _ < 240; omega), show wX 27 (4 * k + c) = 141 + (4 * k + c) from rfl, Nat.add_assoc]]
theorem S_log (h : Sys Λ Λn σ τ) (a b : Int32) : CallX Λ Λn (cdx [3]) (X1_log σ a b) (X7_log τ a b) := by
  unfold X1_log X7_log X7_log_J15
  rw [X1_question_s, isIn_s, obs, obs]
  by_cases c : inB b 0 3 = true
  · obtain ⟨q, hq, rfl⟩ := inB_C (n := 3) (by decide) c
    obtain ⟨g, hg, eg⟩ := h.1.logd
    rw [if_pos c, c, if_neg b01T, obs, if_pos t00, Option.elim_none, in_s, obs, isIn_s, obs, show mup τ 10 0 0 0 9 = cw σ 0 0 7 from (h.wr0 0 0 7 (by decide)).symm]
    by_cases c2 : inB a 0 (cw σ 0 0 7 - 1) = true
    · rw [c2, if_neg b01T, if_neg b01T]
      rw [eg] at c2
      obtain ⟨k, hk, rfl⟩ := inB_N (by omega) c2
      rw [ofLog_s (by omega) (by omega), T_logged (h.wr0 0) (by omega) (by omega), obs, obs]
      exact .ok0 h rfl rfl
    · rw [nBf c2, if_pos b01F, if_pos b01F]
      exact .ok0 h rfl rfl
  · rw [if_neg c, nBf c, if_pos b01F, obs, if_neg (t01 (by decide)), Option.elim_some]
    exact .er0 h rfl (by decide) rfl rfl
theorem nI_m1 {k : Nat} : nI (k + 1) + -1 = nI k := by
  rw [← nI_1, Int32.add_assoc, show (1 : Int32) + -1 = 0 from by decide, Int32.add_zero]
theorem S_led (h : Sys Λ Λn σ τ) (a b : Int32) : CallX Λ Λn (cdx [0]) (X1_led σ a b) (X7_led τ a b) := by
  unfold X1_led X7_led X7_led_J14
  rw [X1_deedAt_s, T_isDeed h.2.1, obs, obs]
  by_cases c : inB a 0 (cw σ 0 0 3 - 1) = true
  · obtain ⟨g, hg, eg⟩ := h.1.logd
    have w0 := h.wr0 0
    rw [if_pos c, c, if_neg b01T, obs, if_pos t00, obs]
    simp only [Sum.elim_inl]
    rw [obs, show mup τ 10 0 0 0 9 = cw σ 0 0 7 from (w0 0 7 (by decide)).symm, eg]
    have fin : ∀ r : Int32, CallX Λ Λn (cdx [0]) (some (.inl (r, σ))) (some (r, mup τ 10 0 0)) := fun r => .ok0 h rfl rfl
    generalize mup τ 10 0 0 = τ0 at w0 fin
    have key := loop_both (f := X1_led_L21 σ a b) (g := X7_led_L42 τ0 a b) (fun i (s : Int32 × Int32 × Int32) => i ≤ g ∧ s.2.2 = nI (g - i) - 1) g (by unfold FU; omega) (fun i s hi hs => ?_) (s0 := (0, -1, nI g - 1)) ⟨Nat.zero_le _, rfl⟩
    · obtain ⟨e, e1, e2⟩ := key
      rw [e1, e2, obs, obs]
      by_cases c2 : b = 0
      · rw [if_pos c2, if_pos c2]
        exact fin _
      · rw [if_neg c2, if_neg c2]
        exact fin _
    · obtain ⟨s1, s2, s3⟩ := s
      obtain ⟨hle, hx⟩ := hs
      simp only at hx
      subst hx
      unfold X1_led_L21 X7_led_L42
      simp only []
      by_cases c3 : i = g
      · subst c3
        rw [Nat.sub_self, if_pos (by decide), if_pos (by decide)]
        exact ⟨_, rfl, rfl, Or.inr ⟨_, rfl⟩⟩
      · obtain ⟨m, hm⟩ : ∃ m, g - i = m + 1 := ⟨g - i - 1, by omega⟩
        have em : g - (i + 1) = m := by omega
        have l1 : X1_ofLog σ (nI m) 1 = some (cw σ 0 27 (4 * m + 1)) := ofLog_s (c := 1) (by omega) (by decide)
        have l0 : X1_ofLog σ (nI m) 0 = some (cw σ 0 27 (4 * m + 0)) := ofLog_s (c := 0) (by omega) (by decide)
        have l3 : X7_logged τ0 (nI m) 1 = some (cw σ 0 27 (4 * m + 1)) := T_logged w0 (c := 1) (by omega) (by decide)
        have l2 : X7_logged τ0 (nI m) 0 = some (cw σ 0 27 (4 * m + 0)) := T_logged w0 (c := 0) (by omega) (by decide)
        rw [hm, show nI (m + 1) - 1 = nI m from by rw [← nI_1, Int32.add_sub_cancel], if_neg (nI_pos (by omega)), if_neg (nI_pos (by omega)), l0, l1, l2, l3]
        simp only [obs]
        have en : nI m + -1 = nI (g - (i + 1)) - 1 := by rw [em, Int32.sub_eq_add_neg]
        rw [en]
        by_cases c4 : cw σ 0 27 (4 * m + 1) = a
        · rw [if_pos c4]
          exact ⟨_, rfl, rfl, Or.inl ⟨_, rfl, by omega, by omega, rfl⟩⟩
        · rw [if_neg c4]
          exact ⟨_, rfl, rfl, Or.inl ⟨_, rfl, by omega, by omega, rfl⟩⟩
  · rw [if_neg c, nBf c, if_pos b01F, obs, if_neg (t01 (by decide))]
    simp only [Sum.elim_inr]
    exact .er0 h rfl (by decide) rfl rfl
def jarV (w : Mm) (i : Int32) : Int32 := sBits (nD w) (fun d => decide (w 16 d = i))
theorem jarOf_s (h : WI (cw σ 0)) (a : Int32) : X1_jarOf σ a = some (jarV (cw σ 0) a) := by
  obtain ⟨e, hD⟩ := h.D
  unfold X1_jarOf
  refine ob1 (loop_bits (fun d => decide (cw σ 0 16 d = a)) (nD (cw σ 0)) (FU8 hD) (fun i acc hi => ?_) (fun acc => ?_)) rfl
  · unfold X1_jarOf_L4
    rw [if_neg (by rw [e]; exact nI_ge hi (by omega)), ldN (by omega) (by decide)]
    by_cases c : cw σ 0 16 i = a <;> simp [c, nI_1]
  · unfold X1_jarOf_L4
    rw [if_pos (by rw [e]; exact nI_le (Nat.le_refl _) (by omega))]
theorem T_jarOf {w : Mm} (h : WI w) (hr : WR w (τ 0)) (a : Int32) : X7_jarOf τ a = some (jarV w a) := by
  obtain ⟨e, hD⟩ := h.D
  unfold X7_jarOf
  refine ob1 (loop_bits (fun d => decide (w 16 d = a)) (nD w) (FU8 hD) (fun i acc hi => ?_) (fun acc => ?_)) rfl
  · unfold X7_jarOf_L4
    rw [if_neg (by rw [T_n5 hr h]; exact nI_ge hi (by omega)), T_of0 hr (by omega)]
    by_cases c : w 16 i = a <;> simp [c, nI_1]
  · unfold X7_jarOf_L4
    rw [if_pos (by rw [T_n5 hr h]; exact nI_le (Nat.le_refl _) (by omega))]
theorem S_ink (h : Sys Λ Λn σ τ) (a b : Int32) : CallX Λ Λn (cdx [0, 3]) (X1_ink σ a b) (X7_ink τ a b) := by
  unfold X1_ink X7_ink
  rw [X1_inkAt_s, T_isInk h.2.1, obs, obs]
  by_cases c : inB a 0 (cw σ 0 0 2 - 1) = true
  · obtain ⟨i, hi, rfl⟩ := inB_K h.1 c
    have hK := h.1.K.2
    have w0 := h.wr0 0
    rw [if_pos c, c, if_neg b01T]
    simp only [Sum.elim_inl]
    rw [X1_question_s, isIn_s, obs, obs]
    unfold X7_ink_J27
    by_cases c2 : inB b 0 3 = true
    · obtain ⟨k, hk, rfl⟩ := inB_C (n := 3) (by decide) c2
      rw [if_pos c2, c2, if_neg b01T, Option.elim_none, obs, if_pos t00, ldN (by omega) (by decide), ldN (by omega) (by decide), ldN (by omega) (by decide), obs, obs, obs, jarOf_s h.1, T_jarOf h.1 w0, obs, obs]
      match k, hk with
      | 0, _ => rw [if_pos (show nI 0 = 0 from rfl), if_neg (by decide), show nI 0 = (0 : Int32) from rfl, T_ink0 w0 (by omega), obs]; exact .ok0 h rfl rfl
      | 1, _ => rw [if_neg (by decide), if_pos (show nI 1 = 1 from rfl), if_neg (by decide), show nI 1 = (1 : Int32) from rfl, T_ink1 w0 (by omega), obs]; exact .ok0 h rfl rfl
      | 2, _ => rw [if_neg (by decide), if_neg (by decide), if_pos (show nI 2 = 2 from rfl), if_neg (by decide), show nI 2 = (2 : Int32) from rfl, T_ink2 w0 (by omega), obs]; exact .ok0 h rfl rfl
      | 3, _ => rw [if_neg (by decide), if_neg (by decide), if_neg (by decide), if_pos (by decide)]; exact .ok0 h rfl rfl
    · rw [if_neg c2, nBf c2, if_pos b01F, obs, if_neg (t01 (by decide)), Option.elim_some]
      exact .er0 h rfl (by decide) rfl rfl
  · unfold X7_ink_J27
    rw [if_neg c, nBf c, if_pos b01F, obs, if_neg (t01 (by decide))]
    simp only [Sum.elim_inr]
    exact .er0 h rfl (by decide) rfl rfl
theorem S_richest (h : Sys Λ Λn σ τ) : CallR Λ Λn σ (X1_richest σ) (X7_richest τ) := by
  obtain ⟨e, hP⟩ := h.1.P
  have w0 := h.wr0 0
  unfold X1_richest X7_richest
  have key := loop_both (f := X1_richest_L4 σ) (g := X7_richest_L9 (mup τ 10 0 0)) (fun i (s : Int32 × Int32) => isM s.1 i ∧ s.2 = nI i) (nP (cw σ 0)) (FU8 (by omega)) (fun i s hi hs => ?_) (s0 := (-1, 0)) ⟨Or.inl rfl, rfl⟩
  · obtain ⟨r, e1, e2⟩ := key
    rw [e1, obs, obs, e2, obs]
    exact ⟨_, _, rfl, rfl, h.t0 0⟩
  · obtain ⟨s1, s2⟩ := s
    obtain ⟨h1, h2⟩ := hs
    simp only at h1 h2
    subst h2
    unfold X1_richest_L4 X7_richest_L9
    simp only []
    rw [show mup τ 10 0 0 0 3 = nI (nP (cw σ 0)) from (w0 0 1 (by decide)).symm.trans e, e]
    rcases Nat.lt_or_ge i (nP (cw σ 0)) with hlt | hge
    · rw [if_neg (nI_ge hlt (by omega)), if_neg (nI_ge hlt (by omega)), nI_1]
      simp only [obs]
      have m1 : isM (nI i) (i + 1) := Or.inr ⟨i, by omega, rfl⟩
      rcases h1 with h1 | ⟨k, hk, rfl⟩
      · rw [if_pos h1, if_pos h1]
        exact ⟨_, rfl, rfl, Or.inl ⟨_, rfl, hlt, m1, rfl⟩⟩
      · rw [if_neg (nI_nm (by omega)), if_neg (nI_nm (by omega)), ldN (by omega) (by decide), ldN (by omega) (by decide), T_coin w0 (by omega), T_coin w0 (by omega)]
        simp only [obs]
        by_cases c : cw σ 0 10 i ≤ cw σ 0 10 k
        · rw [if_pos c]
          exact ⟨_, rfl, rfl, Or.inl ⟨_, rfl, hlt, Or.inr ⟨k, by omega, rfl⟩, rfl⟩⟩
        · rw [if_neg c]
          exact ⟨_, rfl, rfl, Or.inl ⟨_, rfl, hlt, m1, rfl⟩⟩
    · have : i = nP (cw σ 0) := by omega
      subst this
      rw [if_pos (nI_le (Nat.le_refl _) (by omega)), if_pos (nI_le (Nat.le_refl _) (by omega))]
      exact ⟨_, rfl, rfl, Or.inr ⟨_, rfl⟩⟩
theorem coinsAll_s (h : WI (cw σ 0)) : X1_coinsOfAll σ 0 = some (sumI (nP (cw σ 0)) (cw σ 0 10)) := by
  obtain ⟨e, hP⟩ := h.P
  unfold X1_coinsOfAll
  refine ob1 (loop_sum (cw σ 0 10) (nP (cw σ 0)) (FU8 (by omega)) (fun i acc hi => ?_) (fun acc => ?_)) rfl
  · unfold X1_coinsOfAll_L4
    rw [if_neg (by rw [e]; exact nI_ge hi (by omega)), ldN (by omega) (by decide), obs, obs, nI_1, obs]
  · unfold X1_coinsOfAll_L4
    rw [if_pos (by rw [e]; exact nI_le (Nat.le_refl _) (by omega))]
theorem S_count (h : Sys Λ Λn σ τ) (a : Int32) : CallX Λ Λn (fun _ => 0) (X1_count Λn σ a) (X7_count τ a) := by
  have w0 := h.wr0 0
  have hs := h.t0 0
  have z0 : mup τ 10 0 0 10 0 = 0 := mup_s
  unfold X1_count X7_count
  rw [obs]
  generalize mup τ 10 0 0 = τ0 at w0 hs z0
  have fin : ∀ {r : Int32} {x7 : Option (Int32 × Mm)}, x7 = some (r, τ0) → CallX Λ Λn (fun _ => 0) (some (.inl (r, σ))) x7 := fun e => .ok hs z0 rfl e
  by_cases c0 : a = 0
  · rw [if_pos c0, if_pos c0]; exact fin (by rw [w0 0 1 (by decide)]; rfl)
  rw [if_neg c0, if_neg c0]
  by_cases c1 : a = 1
  · rw [if_pos c1, if_pos c1]; exact fin (by rw [w0 0 2 (by decide)]; rfl)
  rw [if_neg c1, if_neg c1]
  by_cases c2 : a = 2
  · rw [if_pos c2, if_pos c2]; exact fin (by rw [w0 0 3 (by decide)]; rfl)
  rw [if_neg c2, if_neg c2]
  by_cases c3 : a = 3
  · rw [if_pos c3, if_pos c3]; exact fin (by rw [w0 0 0 (by decide)]; rfl)
  rw [if_neg c3, if_neg c3]
  by_cases c4 : a = 4
  · rw [if_pos c4, if_pos c4]
    have e := hs.2.2.1.2
    cases el : cl σ 0 with
    | none =>
      rw [el] at e
      rw [Option.elim_none]
      exact fin (by rw [e]; rfl)
    | some q =>
      rw [el] at e
      rw [Option.elim_some]
      exact fin (by rw [e]; rfl)
  rw [if_neg c4, if_neg c4, isIn_s, obs]
  by_cases c5 : a = 5
  · subst c5
    rw [if_pos rfl, if_neg (by decide), show ((6 : Int32) + 5) - 5 = nI 6 from by decide, ldN (by decide) (by decide), obs]; exact fin (by rw [w0 0 4 (by decide)]; rfl)
  rw [if_neg c5]
  by_cases c6 : a = 6
  · subst c6
    rw [if_pos rfl, if_neg (by decide), show ((6 : Int32) + 6) - 5 = nI 7 from by decide, ldN (by decide) (by decide), obs]; exact fin (by rw [w0 0 5 (by decide)]; rfl)
  rw [if_neg c6]
  by_cases c7 : a = 7
  · subst c7
    rw [if_pos rfl, if_neg (by decide), show ((6 : Int32) + 7) - 5 = nI 8 from by decide, ldN (by decide) (by decide), obs]; exact fin (by rw [w0 0 6 (by decide)]; rfl)
  rw [if_neg c7]
  have no : inB a 5 7 = false := by
    cases q : inB a 5 7 with
    | false => rfl
    | true =>
      exfalso
      unfold inB at q
      simp only [Bool.and_eq_true, Bool.not_eq_true', decide_eq_false_iff_not] at q
      obtain ⟨q1, q2⟩ := q
      obtain ⟨j, hj, rfl⟩ := nI_of (show ¬ a < 0 from fun g => q1 (Int32.lt_trans g (by decide)))
      have a1 : ¬ j < 5 := fun g => q1 ((nI_ltI (b := 5) hj (by decide)).mpr g)
      have a2 : ¬ 7 < j := fun g => q2 ((nI_ltI (a := 7) (by decide) hj).mpr g)
      have : j = 5 ∨ j = 6 ∨ j = 7 := by omega
      rcases this with rfl | rfl | rfl
      · exact c5 rfl
      · exact c6 rfl
      · exact c7 rfl
  rw [no, if_pos b01F]
  have coin : loopO (X7_count_L126 τ0 a) FU (0, 0) = some (sumI (nP (cw σ 0)) (cw σ 0 10)) := by
    obtain ⟨e, hP⟩ := h.1.P
    have e3 : τ0 0 3 = nI (nP (cw σ 0)) := (w0 0 1 (by decide)).symm.trans e
    refine loop_sum (cw σ 0 10) (nP (cw σ 0)) (FU8 (by omega)) (fun i acc hi => ?_) (fun acc => ?_)
    · unfold X7_count_L126
      rw [if_neg (by rw [e3]; exact nI_ge hi (by omega)), T_coin w0 (by omega), obs, obs, nI_1, obs]
    · unfold X7_count_L126
      rw [if_pos (by rw [e3]; exact nI_le (Nat.le_refl _) (by omega))]
  rw [coin, coinsAll_s h.1, obs, obs, X2_paidOnes_s h.1, T_paidOnes w0 h.1, obs, obs]
  by_cases c8 : a = 8
  · subst c8
    rw [if_pos rfl, if_neg (by decide), if_neg (by decide), if_neg (by decide), if_pos rfl]; exact fin rfl
  rw [if_neg c8]
  by_cases c9 : a = 9
  · rw [if_pos c9, if_pos c9]; exact fin rfl
  rw [if_neg c9, if_neg c9]
  by_cases cA : a = 10
  · rw [if_pos cA, if_pos cA]; exact fin (by rw [w0 0 7 (by decide)]; rfl)
  rw [if_neg cA, if_neg cA]
  by_cases cB : a = 11
  · rw [if_pos cB, if_pos cB]
    obtain ⟨n, u1, u2, u3, -⟩ := hs.2.2.2.2.1
    rw [u2]
    exact fin (by rw [u3])
  rw [if_neg cB, if_neg cB, if_neg c8]
  exact fin rfl
end AF
