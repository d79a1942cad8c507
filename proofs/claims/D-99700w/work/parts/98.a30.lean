/-! PURE: what is asked of a deed; choices; odds; deeds alike -/
def hbV (L : Nat → (Nat → Int32) → Int32) (w : Mm) (d : Nat) (p : Int32) (o q : Nat) : Int32 := if o = 1 ∧ q = 1 then 0 else (if w 18 d = p then w 19 d else if w 17 d = p then - w 19 d else 0) - (if o = 1 then 0 else if q = 1 then costV L w d else costV L w d / 2)
section AR
variable {Λ : Nat → Nat → (Nat → Int32) → Int32} {Λn : Nat → Int32} {σ : Cs} {τ : Mm}
theorem S_deed (h : Sys Λ Λn σ τ) (a b : Int32) : CallX Λ Λn (cdx [0, 3]) (X1_deed Λ σ a b) (X7_deed τ a b) := by
  unfold X1_deed X7_deed
  rw [X1_deedAt_s, T_isDeed h.2.1, obs, obs]
  by_cases c : inB a 0 (cw σ 0 0 3 - 1) = true
  · obtain ⟨d, hd, rfl⟩ := inB_D h.1 c
    have hD := h.1.D.2
    rw [if_pos c, c, if_neg b01T]
    simp only [Sum.elim_inl]
    rw [X1_question_s, isIn_s, obs, obs]
    unfold X7_deed_J28
    by_cases c2 : inB b 0 15 = true
    · obtain ⟨k, hk, rfl⟩ := inB_C (n := 15) (by decide) c2
      rw [if_pos c2, c2, if_neg b01T, Option.elim_none, obs, if_pos t00]
      have h1 := h.t0 0
      have z0 : mup τ 10 0 0 10 0 = 0 := mup_s
      generalize mup τ 10 0 0 = τ1 at h1 z0
      have w0 := h1.2.1
      obtain ⟨τA, eA, tA, a17, a18⟩ := T_asks w0 h.1 hd h1.2.2.1.1
      have hs := h1.trT tA
      have zA : τA 10 0 = 0 := (tA.2.2.2.1 0 rfl).trans z0
      obtain ⟨f12, e12⟩ := X1_ripensBy_s (Λ := Λ) (σ := σ) (k := 0) h.1 hd h.lam
      obtain ⟨f13, e13⟩ := X1_costsOf_s (Λ := Λ) (σ := σ) (k := 0) h.1 hd h.lam
      obtain ⟨pr, pσ, pτ, p1, p2, ps⟩ := S_price hs.wo hs.2.2.2.2.2.2.2.1 hd
      match k, hk with
      | 0, _ =>
        rw [if_pos (show nI 0 = 0 from rfl), if_neg (show ¬ (12 : Int32) ≤ nI 0 by decide), show X7_of τ1 (nI d) (nI 0) = some (cw σ 0 16 d) from T_of0 w0 (by omega), obs, ldN (by omega) (by decide), obs]
        exact .ok h1 z0 rfl rfl
      | 1, _ =>
        rw [if_neg (show ¬ nI 1 = 0 by decide), if_pos (show nI 1 = 1 from rfl), if_neg (show ¬ (12 : Int32) ≤ nI 1 by decide), show X7_of τ1 (nI d) (nI 1) = some (cw σ 0 17 d) from T_of1 w0 (by omega), obs, ldN (by omega) (by decide), obs]
        exact .ok h1 z0 rfl rfl
      | 2, _ =>
        rw [if_neg (show ¬ nI 2 = 0 by decide), if_neg (show ¬ nI 2 = 1 by decide), if_pos (show nI 2 = 2 from rfl), if_neg (show ¬ (12 : Int32) ≤ nI 2 by decide), show X7_of τ1 (nI d) (nI 2) = some (cw σ 0 18 d) from T_of2 w0 (by omega), obs, ldN (by omega) (by decide), obs]
        exact .ok h1 z0 rfl rfl
      | 3, _ =>
        rw [if_neg (show ¬ nI 3 = 0 by decide), if_neg (show ¬ nI 3 = 1 by decide), if_neg (show ¬ nI 3 = 2 by decide), if_pos (show nI 3 = 3 from rfl), if_neg (show ¬ (12 : Int32) ≤ nI 3 by decide), show X7_of τ1 (nI d) (nI 3) = some (cw σ 0 19 d) from T_of3 w0 (by omega), obs, ldN (by omega) (by decide), obs]
        exact .ok h1 z0 rfl rfl
      | 4, _ =>
        rw [if_neg (show ¬ nI 4 = 0 by decide), if_neg (show ¬ nI 4 = 1 by decide), if_neg (show ¬ nI 4 = 2 by decide), if_neg (show ¬ nI 4 = 3 by decide), if_pos (show nI 4 = 4 from rfl), if_neg (show ¬ (12 : Int32) ≤ nI 4 by decide), show X7_of τ1 (nI d) (nI 4) = some (cw σ 0 20 d) from T_of4 w0 (by omega), obs, ldN (by omega) (by decide), obs]
        exact .ok h1 z0 rfl rfl
      | 5, _ =>
        rw [if_neg (show ¬ nI 5 = 0 by decide), if_neg (show ¬ nI 5 = 1 by decide), if_neg (show ¬ nI 5 = 2 by decide), if_neg (show ¬ nI 5 = 3 by decide), if_neg (show ¬ nI 5 = 4 by decide), if_pos (show nI 5 = 5 from rfl), if_neg (show ¬ (12 : Int32) ≤ nI 5 by decide), show X7_of τ1 (nI d) (nI 5) = some (cw σ 0 21 d) from T_of5 w0 (by omega), obs, ldN (by omega) (by decide), obs]
        exact .ok h1 z0 rfl rfl
      | 6, _ =>
        rw [if_neg (show ¬ nI 6 = 0 by decide), if_neg (show ¬ nI 6 = 1 by decide), if_neg (show ¬ nI 6 = 2 by decide), if_neg (show ¬ nI 6 = 3 by decide), if_neg (show ¬ nI 6 = 4 by decide), if_neg (show ¬ nI 6 = 5 by decide), if_pos (show nI 6 = 6 from rfl), if_neg (show ¬ (12 : Int32) ≤ nI 6 by decide), show X7_of τ1 (nI d) (nI 6) = some (cw σ 0 22 d) from T_of6 w0 (by omega), obs, ldN (by omega) (by decide), obs]
        exact .ok h1 z0 rfl rfl
      | 7, _ =>
        rw [if_neg (show ¬ nI 7 = 0 by decide), if_neg (show ¬ nI 7 = 1 by decide), if_neg (show ¬ nI 7 = 2 by decide), if_neg (show ¬ nI 7 = 3 by decide), if_neg (show ¬ nI 7 = 4 by decide), if_neg (show ¬ nI 7 = 5 by decide), if_neg (show ¬ nI 7 = 6 by decide), if_pos (show nI 7 = 7 from rfl), if_neg (show ¬ (12 : Int32) ≤ nI 7 by decide), show X7_of τ1 (nI d) (nI 7) = some (cw σ 0 23 d) from T_of7 w0 (by omega), obs, ldN (by omega) (by decide), obs]
        exact .ok h1 z0 rfl rfl
      | 8, _ =>
        rw [if_neg (show ¬ nI 8 = 0 by decide), if_neg (show ¬ nI 8 = 1 by decide), if_neg (show ¬ nI 8 = 2 by decide), if_neg (show ¬ nI 8 = 3 by decide), if_neg (show ¬ nI 8 = 4 by decide), if_neg (show ¬ nI 8 = 5 by decide), if_neg (show ¬ nI 8 = 6 by decide), if_neg (show ¬ nI 8 = 7 by decide), if_pos (show nI 8 = 8 from rfl), if_neg (show ¬ (12 : Int32) ≤ nI 8 by decide), show X7_of τ1 (nI d) (nI 8) = some (cw σ 0 24 d) from T_of8 w0 (by omega), obs, ldN (by omega) (by decide), obs]
        exact .ok h1 z0 rfl rfl
      | 9, _ =>
        rw [if_neg (show ¬ nI 9 = 0 by decide), if_neg (show ¬ nI 9 = 1 by decide), if_neg (show ¬ nI 9 = 2 by decide), if_neg (show ¬ nI 9 = 3 by decide), if_neg (show ¬ nI 9 = 4 by decide), if_neg (show ¬ nI 9 = 5 by decide), if_neg (show ¬ nI 9 = 6 by decide), if_neg (show ¬ nI 9 = 7 by decide), if_neg (show ¬ nI 9 = 8 by decide), if_pos (show nI 9 = 9 from rfl), if_neg (show ¬ (12 : Int32) ≤ nI 9 by decide), show X7_of τ1 (nI d) (nI 9) = some (cw σ 0 25 d) from T_of9 w0 (by omega), obs, ldN (by omega) (by decide), obs]
        exact .ok h1 z0 rfl rfl
      | 10, _ =>
        rw [if_neg (show ¬ nI 10 = 0 by decide), if_neg (show ¬ nI 10 = 1 by decide), if_neg (show ¬ nI 10 = 2 by decide), if_neg (show ¬ nI 10 = 3 by decide), if_neg (show ¬ nI 10 = 4 by decide), if_neg (show ¬ nI 10 = 5 by decide), if_neg (show ¬ nI 10 = 6 by decide), if_neg (show ¬ nI 10 = 7 by decide), if_neg (show ¬ nI 10 = 8 by decide), if_neg (show ¬ nI 10 = 9 by decide), if_pos (show nI 10 = 10 from rfl), if_neg (show ¬ (12 : Int32) ≤ nI 10 by decide), show X7_of τ1 (nI d) (nI 10) = some (cw σ 0 26 d) from T_of10 w0 (by omega), obs, ldN (by omega) (by decide), obs]
        exact .ok h1 z0 rfl rfl
      | 11, _ =>
        rw [if_neg (show ¬ nI 11 = 0 by decide), if_neg (show ¬ nI 11 = 1 by decide), if_neg (show ¬ nI 11 = 2 by decide), if_neg (show ¬ nI 11 = 3 by decide), if_neg (show ¬ nI 11 = 4 by decide), if_neg (show ¬ nI 11 = 5 by decide), if_neg (show ¬ nI 11 = 6 by decide), if_neg (show ¬ nI 11 = 7 by decide), if_neg (show ¬ nI 11 = 8 by decide), if_neg (show ¬ nI 11 = 9 by decide), if_neg (show ¬ nI 11 = 10 by decide), if_pos (show nI 11 = 11 from rfl), if_neg (show ¬ (12 : Int32) ≤ nI 11 by decide), show X7_of τ1 (nI d) (nI 11) = some (cw σ 0 15 d) from T_of11 w0 (by omega), obs, ldN (by omega) (by decide), obs]
        rcases h.1.paid (show d < 8 by omega) with g | g
        · rw [g, if_pos rfl]; exact .ok h1 z0 rfl rfl
        · rw [g, if_neg (by decide)]; exact .ok h1 z0 rfl rfl
      | 12, _ =>
        rw [if_neg (show ¬ nI 12 = 0 by decide), if_neg (show ¬ nI 12 = 1 by decide), if_neg (show ¬ nI 12 = 2 by decide), if_neg (show ¬ nI 12 = 3 by decide), if_neg (show ¬ nI 12 = 4 by decide), if_neg (show ¬ nI 12 = 5 by decide), if_neg (show ¬ nI 12 = 6 by decide), if_neg (show ¬ nI 12 = 7 by decide), if_neg (show ¬ nI 12 = 8 by decide), if_neg (show ¬ nI 12 = 9 by decide), if_neg (show ¬ nI 12 = 10 by decide), if_neg (show ¬ nI 12 = 11 by decide), if_pos (show nI 12 = 12 from rfl), if_pos (show (12 : Int32) ≤ nI 12 by decide), eA, obs]
        rw [e12, obs, a17]
        exact .ok (hs.sc sS.sc3 sT.rf) zA rfl rfl
      | 13, _ =>
        rw [if_neg (show ¬ nI 13 = 0 by decide), if_neg (show ¬ nI 13 = 1 by decide), if_neg (show ¬ nI 13 = 2 by decide), if_neg (show ¬ nI 13 = 3 by decide), if_neg (show ¬ nI 13 = 4 by decide), if_neg (show ¬ nI 13 = 5 by decide), if_neg (show ¬ nI 13 = 6 by decide), if_neg (show ¬ nI 13 = 7 by decide), if_neg (show ¬ nI 13 = 8 by decide), if_neg (show ¬ nI 13 = 9 by decide), if_neg (show ¬ nI 13 = 10 by decide), if_neg (show ¬ nI 13 = 11 by decide), if_neg (show ¬ nI 13 = 12 by decide), if_pos (show nI 13 = 13 from rfl), if_pos (show (12 : Int32) ≤ nI 13 by decide), eA, obs]
        rw [e13, obs, a18]
        exact .ok (hs.sc sS.sc3 sT.rf) zA rfl rfl
      | 14, _ =>
        rw [if_neg (show ¬ nI 14 = 0 by decide), if_neg (show ¬ nI 14 = 1 by decide), if_neg (show ¬ nI 14 = 2 by decide), if_neg (show ¬ nI 14 = 3 by decide), if_neg (show ¬ nI 14 = 4 by decide), if_neg (show ¬ nI 14 = 5 by decide), if_neg (show ¬ nI 14 = 6 by decide), if_neg (show ¬ nI 14 = 7 by decide), if_neg (show ¬ nI 14 = 8 by decide), if_neg (show ¬ nI 14 = 9 by decide), if_neg (show ¬ nI 14 = 10 by decide), if_neg (show ¬ nI 14 = 11 by decide), if_neg (show ¬ nI 14 = 12 by decide), if_neg (show ¬ nI 14 = 13 by decide), if_pos (show nI 14 = 14 from rfl), if_pos (show (12 : Int32) ≤ nI 14 by decide), eA, obs]
        rw [X2_of_s h.1, obs, X2_isValid_s (by omega), T_isValidNow hs.2.1 h.1 (by omega), obs, obs]
        cases valB (cw σ 0) d (stB (cw σ 0) 1) with
        | false => rw [if_pos b01F, if_pos b01F]; exact .ok hs zA rfl rfl
        | true => rw [if_neg b01T, if_neg b01T]; exact .ok hs zA rfl rfl
      | 15, _ =>
        rw [if_neg (show ¬ nI 15 = 0 by decide), if_neg (show ¬ nI 15 = 1 by decide), if_neg (show ¬ nI 15 = 2 by decide), if_neg (show ¬ nI 15 = 3 by decide), if_neg (show ¬ nI 15 = 4 by decide), if_neg (show ¬ nI 15 = 5 by decide), if_neg (show ¬ nI 15 = 6 by decide), if_neg (show ¬ nI 15 = 7 by decide), if_neg (show ¬ nI 15 = 8 by decide), if_neg (show ¬ nI 15 = 9 by decide), if_neg (show ¬ nI 15 = 10 by decide), if_neg (show ¬ nI 15 = 11 by decide), if_neg (show ¬ nI 15 = 12 by decide), if_neg (show ¬ nI 15 = 13 by decide), if_neg (show ¬ nI 15 = 14 by decide), if_pos (show (12 : Int32) ≤ nI 15 by decide), eA, obs]
        rw [p1, p2, obs, obs]
        exact .ok (hs.sc ps.1 ps.2.1) (ps.2.2.trans zA) rfl rfl
    · rw [if_neg c2, nBf c2, if_pos b01F, obs, if_neg (t01 (by decide)), Option.elim_some]
      exact .er0 h rfl (by decide) rfl rfl
  · unfold X7_deed_J28
    rw [if_neg c, nBf c, if_pos b01F, obs, if_neg (t01 (by decide))]
    simp only [Sum.elim_inr]
    exact .er0 h rfl (by decide) rfl rfl
/-! choices -/
theorem heir_s (h : WI (cw σ 0)) (hΛ : LamOK Λ (cl σ 0)) {d o q : Nat} (hd : d < nD (cw σ 0)) (ho : o ≤ 1) (hq : q ≤ 1) (p : Int32) : ∃ f, X1_heirHas Λ σ p (nI d) (nI o) (nI q) = some (hbV (lawF Λ (cl σ 0)) (cw σ 0) d p o q, sc3 σ f) := by
  have hD := h.D.2
  obtain ⟨f, e1⟩ := X1_costsOf_s (Λ := Λ) (σ := σ) (k := 0) h hd hΛ
  have z : ∀ x : Int32, x - 0 = x := Int32.sub_zero
  have o1 : (nI o = 1) ↔ o = 1 := nI_eq (b := 1) (by omega) (by decide)
  have q1 : (nI q = 1) ↔ q = 1 := nI_eq (b := 1) (by omega) (by decide)
  unfold X1_heirHas hbV
  by_cases c : o = 1 ∧ q = 1
  · rw [if_pos (o1.mpr c.1), if_pos (q1.mpr c.2), if_pos c]
    exact ⟨co σ 3, by rw [sc3_self]⟩
  · have main : X1_heirHas_J13 Λ σ p (nI d) (nI o) (nI q) = some ((if cw σ 0 18 d = p then cw σ 0 19 d else if cw σ 0 17 d = p then - cw σ 0 19 d else 0) - (if o = 1 then 0 else if q = 1 then costV (lawF Λ (cl σ 0)) (cw σ 0) d else costV (lawF Λ (cl σ 0)) (cw σ 0) d / 2), sc3 σ f) := by
      have j65 : ∀ y, X1_heirHas_J65 Λ σ (nI d) (nI o) (nI q) y = some (y - (if o = 1 then 0 else if q = 1 then costV (lawF Λ (cl σ 0)) (cw σ 0) d else costV (lawF Λ (cl σ 0)) (cw σ 0) d / 2), sc3 σ f) := by
        intro y
        unfold X1_heirHas_J65
        rw [e1, obs]
        by_cases co : o = 1
        · rw [if_pos (o1.mpr co), if_pos co]
        · rw [if_neg (fun g => co (o1.mp g)), if_neg co]
          by_cases cq : q = 1
          · rw [if_pos (q1.mpr cq), if_pos cq]
          · rw [if_neg (fun g => cq (q1.mp g)), if_neg cq]
      unfold X1_heirHas_J13
      rw [ldN (by omega) (by decide), obs, ldN (by omega) (by decide), obs, ldN (by omega) (by decide)]
      simp only [obs, j65]
      by_cases c1 : cw σ 0 18 d = p
      · rw [if_pos c1, if_pos c1]
      · rw [if_neg c1, if_neg c1]
        by_cases c2 : cw σ 0 17 d = p
        · rw [if_pos c2, if_pos c2]
        · rw [if_neg c2, if_neg c2]
    refine ⟨f, ?_⟩
    rw [if_neg c]
    by_cases co : o = 1
    · rw [if_pos (o1.mpr co), if_neg (fun g => c ⟨co, q1.mp g⟩)]
      exact main
    · rw [if_neg (fun g => co (o1.mp g))]
      exact main
theorem T_hasBy {w : Mm} {L : Nat → (Nat → Int32) → Int32} (hr : WR w (τ 0)) (h : WI w) (hL : LR L (τ 0)) {d o q : Nat} (hd : d < nD w) (ho : o ≤ 1) (hq : q ≤ 1) (p : Int32) : Rn (X7_hasBy τ (nI d) p (nI o) (nI q)) (fun x => x.1 = hbV L w d p o q ∧ Tr τ x.2 w) := by
  have hD := h.D.2
  obtain ⟨τ', e1, t, -, e3⟩ := T_asks hr h hd hL
  have ec : X7_costsOf τ (nI d) = some (costV L w d, τ') := by
    unfold X7_costsOf
    rw [e1, obs, e3]
  have o1 : (nI o = 1) ↔ o = 1 := nI_eq (b := 1) (by omega) (by decide)
  have q1 : (nI q = 1) ↔ q = 1 := nI_eq (b := 1) (by omega) (by decide)
  have q0 : (nI q = 0) ↔ ¬ q = 1 := (nI_eq (b := 0) (by omega) (by decide)).trans ⟨by omega, by omega⟩
  unfold X7_hasBy hbV
  by_cases c : o = 1 ∧ q = 1
  · rw [if_pos (o1.mpr c.1), if_pos (q1.mpr c.2), if_pos c]
    exact Rn.mk ⟨rfl, Tr.rf hr⟩
  · have main : Rn (X7_hasBy_J13 τ (nI d) p (nI o) (nI q)) (fun x => x.1 = (if w 18 d = p then w 19 d else if w 17 d = p then - w 19 d else 0) - (if o = 1 then 0 else if q = 1 then costV L w d else costV L w d / 2) ∧ Tr τ x.2 w) := by
      have j53 : ∀ y, Rn (X7_hasBy_J53 τ (nI d) (nI o) (nI q) y) (fun x => x.1 = y - (if o = 1 then 0 else if q = 1 then costV L w d else costV L w d / 2) ∧ Tr τ x.2 w) := by
        intro y
        unfold X7_hasBy_J53
        rw [ec]
        simp only [obs]
        by_cases co : o = 1
        · rw [if_pos (o1.mpr co), if_pos co]
          exact Rn.mk ⟨rfl, Tr.rf hr⟩
        · rw [if_neg (fun g => co (o1.mp g)), if_neg co]
          by_cases cq : q = 1
          · rw [if_neg (fun g => (q0.mp g) cq), if_pos cq]
            exact Rn.mk ⟨rfl, t⟩
          · rw [if_pos (q0.mpr cq), if_neg cq]
            exact Rn.mk ⟨rfl, t⟩
      unfold X7_hasBy_J13
      rw [T_of2 hr (by omega), obs, T_of3 hr (by omega), obs, T_of1 hr (by omega), obs, obs]
      by_cases c1 : w 18 d = p
      · rw [if_pos c1.symm, if_pos c1]
        exact j53 _
      · rw [if_neg (fun g => c1 g.symm), if_neg c1]
        by_cases c2 : w 17 d = p
        · rw [if_pos c2.symm, if_pos c2]
          exact j53 _
        · rw [if_neg (fun g => c2 g.symm), if_neg c2]
          exact j53 _
    rw [if_neg c]
    by_cases co : o = 1
    · rw [if_pos (o1.mpr co), if_neg (fun g => c ⟨co, q1.mp g⟩)]
      exact main
    · rw [if_neg (fun g => co (o1.mp g))]
      exact main
def okR (L : Nat → (Nat → Int32) → Int32) (w : Mm) (d : Nat) (p o : Int32) (k : Nat) : Bool := !decide (hbV L w d p (k / 2) (k % 2) < hbV L w d p (1 - k / 2) (k % 2)) && !decide (hbV L w d o (k % 2) (k / 2) < hbV L w d o (1 - k % 2) (k / 2))
theorem one_sub {o : Nat} (h : o ≤ 1) : (1 : Int32) - nI o = nI (1 - o) := (by decide : ∀ o, o ≤ 1 → (1 : Int32) - nI o = nI (1 - o)) o h
theorem S_rests (h : Sys Λ Λn σ τ) (a b c : Int32) : CallX Λ Λn (cdx [0, 1]) (X1_rests Λ σ a b c) (X7_rests τ a b c) := by
  unfold X1_rests X7_rests X7_rests_J25
  rw [X1_partyAt_s, T_isParty h.2.1, obs, obs]
  have no : CallX Λ Λn (cdx [0, 1]) (some (.inr (0, σ))) (X7_rests_J39 τ a b c 1) := by
    unfold X7_rests_J39
    rw [obs, if_neg (t01 (by decide))]
    exact .er0 h rfl (by decide) rfl rfl
  by_cases c1 : inB a 0 (cw σ 0 0 1 - 1) = true
  · rw [if_pos c1, c1, if_neg b01T, T_isParty h.2.1, obs]
    simp only [Sum.elim_inl]
    rw [X1_partyAt_s, obs]
    by_cases c2 : inB b 0 (cw σ 0 0 1 - 1) = true
    · rw [if_pos c2, c2, if_neg b01T, T_isDeed h.2.1, obs]
      simp only [Sum.elim_inl]
      rw [X1_deedAt_s, obs]
      by_cases c3 : inB c 0 (cw σ 0 0 3 - 1) = true
      · obtain ⟨d, hd, rfl⟩ := inB_D h.1 c3
        have hD := h.1.D.2
        rw [if_pos c3, c3, if_neg b01T]
        simp only [Sum.elim_inl]
        unfold X1_rests_J25 X7_rests_J39
        by_cases c4 : a = b
        · rw [if_pos c4, if_pos c4, show X1_demand 0 = some (some 1) from rfl, obs, Option.elim_some, obs, if_neg (t01 (by decide))]
          exact .er0 h rfl (by decide) rfl rfl
        · rw [if_neg c4, if_neg c4, show X1_demand 1 = some none from rfl, obs, Option.elim_none, obs, if_pos t00, ldN (by omega) (by decide), obs]
          have h1 := h.t0 0
          have z0 : mup τ 10 0 0 10 0 = 0 := mup_s
          generalize mup τ 10 0 0 = τ1 at h1 z0
          rw [T_of10 h1.2.1 (by omega), obs]
          by_cases c5 : cw σ 0 26 d = 0
          · rw [if_pos c5, if_pos c5]
            have hL := h1.2.2.1.1
            have heir : ∀ f, ∀ p : Int32, ∀ o q : Nat, o ≤ 1 → q ≤ 1 → ∃ g, X1_heirHas Λ (sc3 σ f) p (nI d) (nI o) (nI q) = some (hbV (lawF Λ (cl σ 0)) (cw σ 0) d p o q, sc3 σ g) := by
              intro f p o q ho hq
              obtain ⟨g, e⟩ := heir_s (Λ := Λ) (σ := sc3 σ f) (d := d) (by rw [cw_sc3]; exact h.1) (by rw [cl_sc3]; exact h.lam) (by rw [cw_sc3]; exact hd) ho hq p
              rw [cw_sc3, cl_sc3, sc3_sc3] at e
              exact ⟨g, e⟩
            have k1 : Rn (loopO (X1_rests_L48 Λ a b (nI d)) FU (σ, 0, 0)) (fun x => ∃ f, x = (sc3 σ f, sBits 4 (okR (lawF Λ (cl σ 0)) (cw σ 0) d a b))) := by
              refine loopO_inv (fun i (s : Cs × Int32 × Int32) => ∃ f, s = (sc3 σ f, sBits (2 * i) (okR (lawF Λ (cl σ 0)) (cw σ 0) d a b), nI i)) _ 2 (by decide) (fun i s hi hs => ?_) ⟨co σ 3, by rw [sc3_self]; rfl⟩
              obtain ⟨f, rfl⟩ := hs
              unfold X1_rests_L48
              simp only []
              by_cases ci : i = 2
              · subst ci
                rw [if_pos (by decide)]
                exact Rn.mk (Or.inr ⟨_, rfl, f, rfl⟩)
              · rw [if_neg (show ¬ (2 : Int32) ≤ nI i from nI_ge (b := 2) (by omega) (by decide))]
                have inner : Rn (loopO (X1_rests_L57 Λ a b (nI d) (nI i)) FU (sc3 σ f, sBits (2 * i) (okR (lawF Λ (cl σ 0)) (cw σ 0) d a b), 0)) (fun x => ∃ f, x = (sc3 σ f, sBits (2 * (i + 1)) (okR (lawF Λ (cl σ 0)) (cw σ 0) d a b))) := by
                  refine loopO_inv (fun j (s : Cs × Int32 × Int32) => ∃ f, s = (sc3 σ f, sBits (2 * i + j) (okR (lawF Λ (cl σ 0)) (cw σ 0) d a b), nI j)) _ 2 (by decide) (fun j s hj hs => ?_) ⟨f, rfl⟩
                  obtain ⟨f2, rfl⟩ := hs
                  unfold X1_rests_L57
                  simp only []
                  by_cases cj : j = 2
                  · subst cj
                    rw [if_pos (by decide)]
                    exact Rn.mk (Or.inr ⟨_, rfl, f2, rfl⟩)
                  · rw [if_neg (show ¬ (2 : Int32) ≤ nI j from nI_ge (b := 2) (by omega) (by decide))]
                    have ki : (2 * i + j) / 2 = i := by omega
                    have kj : (2 * i + j) % 2 = j := by omega
                    obtain ⟨g1, e1⟩ := heir f2 a i j (by omega) (by omega)
                    obtain ⟨g2, e2⟩ := heir g1 a (1 - i) j (by omega) (by omega)
                    obtain ⟨g3, e3⟩ := heir g2 b j i (by omega) (by omega)
                    obtain ⟨g4, e4⟩ := heir g3 b (1 - j) i (by omega) (by omega)
                    have es : sBits (2 * i + (j + 1)) (okR (lawF Λ (cl σ 0)) (cw σ 0) d a b) = sBits (2 * i + j) (okR (lawF Λ (cl σ 0)) (cw σ 0) d a b) ||| (if okR (lawF Λ (cl σ 0)) (cw σ 0) d a b (2 * i + j) = true then (1 : Int32) <<< (nI (2 * i + j) &&& 31) else 0) := rfl
                    have eo : okR (lawF Λ (cl σ 0)) (cw σ 0) d a b (2 * i + j) = (!decide (hbV (lawF Λ (cl σ 0)) (cw σ 0) d a i j < hbV (lawF Λ (cl σ 0)) (cw σ 0) d a (1 - i) j) && !decide (hbV (lawF Λ (cl σ 0)) (cw σ 0) d b j i < hbV (lawF Λ (cl σ 0)) (cw σ 0) d b (1 - j) i)) := by
                      unfold okR
                      rw [ki, kj]
                    rw [one_sub (show i ≤ 1 by omega), one_sub (show j ≤ 1 by omega), e1, obs, e2, obs, show (2 : Int32) * nI i + nI j = nI (2 * i + j) from by rw [show (2 : Int32) = nI 2 from rfl, pk_mul, nI_add], nI_1]
                    rw [eo] at es
                    by_cases d1 : hbV (lawF Λ (cl σ 0)) (cw σ 0) d a i j < hbV (lawF Λ (cl σ 0)) (cw σ 0) d a (1 - i) j
                    · rw [if_pos d1, obs]
                      rw [decide_eq_true d1, Bool.not_true, Bool.false_and, if_neg (by decide), Int32.or_zero] at es
                      exact Rn.mk (Or.inl ⟨_, rfl, by omega, g2, by rw [es]⟩)
                    · rw [if_neg d1, e3, obs, e4, obs]
                      rw [decide_eq_false d1, Bool.not_false, Bool.true_and] at es
                      by_cases d2 : hbV (lawF Λ (cl σ 0)) (cw σ 0) d b j i < hbV (lawF Λ (cl σ 0)) (cw σ 0) d b (1 - j) i
                      · rw [if_pos d2, obs]
                        rw [decide_eq_true d2, Bool.not_true, if_neg (by decide), Int32.or_zero] at es
                        exact Rn.mk (Or.inl ⟨_, rfl, by omega, g4, by rw [es]⟩)
                      · rw [if_neg d2, obs, obs]
                        rw [decide_eq_false d2, Bool.not_false, if_pos rfl] at es
                        exact Rn.mk (Or.inl ⟨_, rfl, by omega, g4, by rw [es]⟩)
                obtain ⟨x, e1, g, rfl⟩ := inner
                rw [e1, obs, nI_1, obs]
                exact Rn.mk (Or.inl ⟨_, rfl, by omega, g, rfl⟩)
            have k7 : Rn (loopO (X7_rests_L69 a b (nI d)) FU (τ1, 0, 0)) (fun x => Tr τ1 x.1 (cw σ 0) ∧ x.2 = sBits 4 (okR (lawF Λ (cl σ 0)) (cw σ 0) d a b)) := by
              refine loopO_inv (fun k (s : Mm × Int32 × Int32) => Tr τ1 s.1 (cw σ 0) ∧ s.2 = (sBits k (okR (lawF Λ (cl σ 0)) (cw σ 0) d a b), nI k)) _ 4 (by decide) (fun k s hk hs => ?_) ⟨Tr.rf h1.2.1, rfl⟩
              obtain ⟨s1, s2⟩ := s
              obtain ⟨t, hx⟩ := hs
              simp only at t hx
              subst hx
              unfold X7_rests_L69
              simp only []
              by_cases ck : k = 4
              · subst ck
                rw [if_pos (by decide)]
                exact Rn.mk (Or.inr ⟨_, rfl, t, rfl⟩)
              · have ed : nI k / 2 = nI (k / 2) := pk_div (a := k) (d := 2) (by omega) (by decide) (by decide)
                have em : nI k - nI (k / 2) * 2 = nI (k % 2) := by rw [← ed]; exact pk_rem (a := k) (d := 2) (by omega) (by decide) (by decide)
                rw [if_neg (show ¬ (4 : Int32) ≤ nI k from nI_ge (b := 4) (by omega) (by decide)), ed, obs, em, obs, one_sub (show k / 2 ≤ 1 by omega), one_sub (show k % 2 ≤ 1 by omega), nI_1]
                obtain ⟨⟨v1, u1⟩, e1, q1, t1⟩ := T_hasBy t.1 h.1 (hL.congr t.2.1) hd (o := 1 - k / 2) (q := k % 2) (by omega) (by omega) a
                simp only at q1 t1
                have tt1 := t.tr t1
                obtain ⟨⟨v2, u2⟩, e2, q2, t2⟩ := T_hasBy tt1.1 h.1 (hL.congr tt1.2.1) hd (o := k / 2) (q := k % 2) (by omega) (by omega) a
                simp only at q2 t2
                have tt2 := tt1.tr t2
                obtain ⟨⟨v3, u3⟩, e3, q3, t3⟩ := T_hasBy tt2.1 h.1 (hL.congr tt2.2.1) hd (o := 1 - k % 2) (q := k / 2) (by omega) (by omega) b
                simp only at q3 t3
                have tt3 := tt2.tr t3
                obtain ⟨⟨v4, u4⟩, e4, q4, t4⟩ := T_hasBy tt3.1 h.1 (hL.congr tt3.2.1) hd (o := k % 2) (q := k / 2) (by omega) (by omega) b
                simp only at q4 t4
                have tt4 := tt3.tr t4
                subst q1 q2 q3 q4
                have es : sBits (k + 1) (okR (lawF Λ (cl σ 0)) (cw σ 0) d a b) = sBits k (okR (lawF Λ (cl σ 0)) (cw σ 0) d a b) ||| (if okR (lawF Λ (cl σ 0)) (cw σ 0) d a b k = true then (1 : Int32) <<< (nI k &&& 31) else 0) := rfl
                unfold okR at es
                rw [show (fun k => !decide (hbV (lawF Λ (cl σ 0)) (cw σ 0) d a (k / 2) (k % 2) < hbV (lawF Λ (cl σ 0)) (cw σ 0) d a (1 - k / 2) (k % 2)) && !decide (hbV (lawF Λ (cl σ 0)) (cw σ 0) d b (k % 2) (k / 2) < hbV (lawF Λ (cl σ 0)) (cw σ 0) d b (1 - k % 2) (k / 2))) = okR (lawF Λ (cl σ 0)) (cw σ 0) d a b from rfl] at es
                rw [e1, obs, e2, obs]
                by_cases d1 : hbV (lawF Λ (cl σ 0)) (cw σ 0) d a (k / 2) (k % 2) < hbV (lawF Λ (cl σ 0)) (cw σ 0) d a (1 - k / 2) (k % 2)
                · rw [if_pos d1, obs]
                  rw [decide_eq_true d1, Bool.not_true, Bool.false_and, if_neg (by decide), Int32.or_zero] at es
                  exact Rn.mk (Or.inl ⟨_, rfl, by omega, tt2, by rw [es]⟩)
                · rw [if_neg d1, e3, obs, e4, obs]
                  rw [decide_eq_false d1, Bool.not_false, Bool.true_and] at es
                  by_cases d2 : hbV (lawF Λ (cl σ 0)) (cw σ 0) d b (k % 2) (k / 2) < hbV (lawF Λ (cl σ 0)) (cw σ 0) d b (1 - k % 2) (k / 2)
                  · rw [if_pos d2, obs]
                    rw [decide_eq_true d2, Bool.not_true, if_neg (by decide), Int32.or_zero] at es
                    exact Rn.mk (Or.inl ⟨_, rfl, by omega, tt4, by rw [es]⟩)
                  · rw [if_neg d2, obs, obs]
                    rw [decide_eq_false d2, Bool.not_false, if_pos rfl] at es
                    exact Rn.mk (Or.inl ⟨_, rfl, by omega, tt4, by rw [es]⟩)
            obtain ⟨x, e1, f, rfl⟩ := k1
            obtain ⟨⟨y1, y2⟩, e2, ty, ey⟩ := k7
            simp only at ty ey
            subst ey
            rw [e1, e2, obs, obs]
            exact .ok ((h1.trT ty).sc sS.sc3 sT.rf) ((ty.2.2.2.1 0 rfl).trans z0) rfl rfl
          · rw [if_neg c5, if_neg c5]
            exact .ok h1 z0 rfl rfl
      · rw [if_neg c3, nBf c3, if_pos b01F]
        simp only [Sum.elim_inr]
        exact no
    · rw [if_neg c2, nBf c2, if_pos b01F]
      simp only [Sum.elim_inr]
      exact no
  · rw [if_neg c1, nBf c1, if_pos b01F]
    simp only [Sum.elim_inr]
    exact no
end AR
