/-! PURE: the reference's season -/
theorem mup_same {w : Mm} {r j : Nat} : mup w r j (w r j) = w := by
  funext a
  unfold mup
  by_cases h : a = r
  · rw [if_pos h, h]
    funext b
    unfold upd
    by_cases h2 : b = j
    · rw [if_pos h2, h2]
    · rw [if_neg h2]
  · rw [if_neg h]
theorem or0 {x : Int32} (h : x = 0 ∨ x = 1) : x ||| 0 = x := by rcases h with h | h <;> rw [h] <;> decide
theorem or1 {x : Int32} (h : x = 0 ∨ x = 1) : x ||| 1 = 1 := by rcases h with h | h <;> rw [h] <;> decide
theorem asc (a b c : Int32) : a + (b - c) = (a + b) - c := by rw [Int32.sub_eq_add_neg, Int32.sub_eq_add_neg, Int32.add_assoc]
section TW2
variable {τ w : Mm}
theorem T_soaked (h : WR w (τ 0)) {i s : Nat} (hi : i < 6) (hs : s < 4) : X7_soaked τ (nI i) (nI s) = some (w 13 i * w 9 s / 10) := by
  unfold X7_soaked
  rw [T_ink2 h hi, show (11 : Int32) = nI 11 from rfl, nI_add, ldN (by omega) (by decide), h 9 s hs]
  rfl
theorem T_pays (h : WR w (τ 0)) (hw : WI w) {d : Nat} (hd : d < nD w) : Rn (X7_pays τ (nI d)) (fun τ' => Tr τ τ' (payW w d)) := by
  have hD := hw.D.2
  have hP := hw.P.2
  have hd8 : d < 8 := by omega
  obtain ⟨a, ha, e1⟩ := hw.deb hd
  obtain ⟨b, hb, e2⟩ := hw.cre hd
  unfold X7_pays
  rw [T_of3 h hd8, T_of1 h hd8, e1]
  simp only [obs]
  rw [T_coin h (by omega)]
  simp only [obs, lesser_s]
  have hg : (if w 10 a < w 19 d then w 10 a else w 19 d) = payN w d := by unfold payN; rw [e1, tN_nI (by omega)]
  rw [hg]
  have key : ∀ y : Int32, y = b01 (decide (¬ payN w d = w 19 d)) → Rn (X7_pays_J35 τ (nI d) (payN w d) y) (fun τ' => Tr τ τ' (payW w d)) := by
    intro y hy
    unfold X7_pays_J35
    rw [T_of1 h hd8, e1]
    simp only [obs]
    rw [ix_coin, ldN (by omega) (by decide), show τ 0 (15 + 2 * a) = w 10 a from (h 10 a (by show a < 6; omega)).symm]
    simp only [obs]
    rw [stoN (by omega) (by decide)]
    simp only [obs]
    have t1 := Tr.put h (r := 10) (j := a) (by show a < 6; omega) (w 10 a - payN w d)
    rw [show wX 10 a = 15 + 2 * a from rfl] at t1
    generalize e9 : mup τ 0 (15 + 2 * a) (w 10 a - payN w d) = τ1 at t1 ⊢
    rw [T_of2 t1.1 hd8, mup_r (show (18 : Nat) ≠ 10 by decide), e2]
    simp only [obs]
    rw [ix_coin, ldN (by omega) (by decide), show τ1 0 (15 + 2 * b) = _ from (t1.1 10 b (by show b < 6; omega)).symm]
    simp only [obs, lesser_s]
    rw [stoN (by omega) (by decide)]
    simp only [obs]
    have t2 := t1.tr (Tr.put t1.1 (r := 10) (j := b) (by show b < 6; omega) (if mup w 10 a (w 10 a - payN w d) 10 b + payN w d < 9999 then mup w 10 a (w 10 a - payN w d) 10 b + payN w d else 9999))
    rw [show wX 10 b = 15 + 2 * b from rfl] at t2
    generalize e8 : mup τ1 0 (15 + 2 * b) (if mup w 10 a (w 10 a - payN w d) 10 b + payN w d < 9999 then mup w 10 a (w 10 a - payN w d) 10 b + payN w d else 9999) = τ2 at t2 ⊢
    have hz := hw.broke (show a < 6 by omega)
    have fin : ∀ (τ3 : Mm), Tr τ τ3 (mup (mup (mup w 10 a (w 10 a - payN w d)) 10 b (if mup w 10 a (w 10 a - payN w d) 10 b + payN w d < 9999 then mup w 10 a (w 10 a - payN w d) 10 b + payN w d else 9999)) 14 a (w 14 a ||| y)) → Rn (X7_pays_J114 τ3 (nI d) (payN w d) y) (fun τ' => Tr τ τ' (payW w d)) := by
      intro τ3 t3
      unfold X7_pays_J114
      rw [T_lays11 hd8]
      simp only [obs]
      have t4 := t3.tr (Tr.put t3.1 (r := 15) (j := d) hd8 1)
      have pw : payW w d = tellW (mup (mup (mup (mup w 10 a (w 10 a - payN w d)) 10 b (if mup w 10 a (w 10 a - payN w d) 10 b + payN w d < 9999 then mup w 10 a (w 10 a - payN w d) 10 b + payN w d else 9999)) 14 a (w 14 a ||| y)) 15 d 1) (nI d) (if payN w d = w 19 d then 2 else 3) (payN w d) := by
        unfold payW
        simp only []
        rw [e1, e2, tN_nI (by omega), tN_nI (by omega), hy]
        first | done | rw [mup_r (show (14 : Nat) ≠ 10 by decide), mup_r (show (14 : Nat) ≠ 10 by decide)]
      rw [pw]
      by_cases c : payN w d = w 19 d
      · rw [if_pos c, if_pos (by rw [hy]; simp [c, b01])]
        obtain ⟨τ', q, t5⟩ := T_logs t4.1 (nI d) 2 (payN w d)
        rw [q]
        exact Rn.mk (t4.tr t5)
      · rw [if_neg c, if_neg (by rw [hy]; simp [c, b01])]
        obtain ⟨τ', q, t5⟩ := T_logs t4.1 (nI d) 3 (payN w d)
        rw [q]
        exact Rn.mk (t4.tr t5)
    by_cases c : payN w d = w 19 d
    · have y0 : y = 0 := by rw [hy]; simp [c, b01]
      rw [if_pos y0]
      refine fin τ2 ?_
      rw [y0, or0 hz, show w 14 a = mup (mup w 10 a (w 10 a - payN w d)) 10 b (if mup w 10 a (w 10 a - payN w d) 10 b + payN w d < 9999 then mup w 10 a (w 10 a - payN w d) 10 b + payN w d else 9999) 14 a from by rw [mup_r (by decide), mup_r (by decide)], mup_same]
      exact t2
    · have y1 : y = 1 := by rw [hy]; simp [c, b01]
      rw [if_neg (by rw [y1]; decide), T_of1 t2.1 hd8, mup_r (show (17 : Nat) ≠ 10 by decide), mup_r (show (17 : Nat) ≠ 10 by decide), e1]
      simp only [obs]
      rw [ix_coin, show (1 : Int32) = nI 1 from rfl, nI_add, stoN (by omega) (by decide)]
      simp only [obs]
      have t3 := t2.tr (Tr.put t2.1 (r := 14) (j := a) (by show a < 6; omega) 1)
      rw [show wX 14 a = 16 + 2 * a from rfl] at t3
      rw [show 15 + 2 * a + 1 = 16 + 2 * a by omega]
      refine fin _ ?_
      rw [y1, or1 hz]
      exact t3
  have hle : payN w d = w 19 d ↔ w 19 d ≤ payN w d := by
    unfold payN
    constructor
    · intro h9
      rw [h9]
      exact Int32.le_refl _
    · intro h9
      by_cases c : w 10 (tN (w 17 d)) < w 19 d
      · rw [if_pos c] at h9
        exact absurd c (Int32.not_lt.mpr h9)
      · rw [if_neg c]
  by_cases c : w 19 d ≤ payN w d
  · rw [if_pos c]
    exact key 0 (by simp [hle.mpr c, b01])
  · rw [if_neg c]
    exact key 1 (by
      have : ¬ payN w d = w 19 d := fun q => c (hle.mp q)
      simp [this, b01])
/-- the facts as the reference holds them -/
def factT (τ : Mm) : Nat → Int32 := fun i => if i < 7 then τ 5 i else if i = 7 then τ 10 15 else if i = 8 then τ 10 16 else 0
/-- what a row's text says, as a law L -/
def LR (L : Nat → (Nat → Int32) → Int32) (m : Nat → Int32) : Prop := (∀ kd s s', (∀ i, i < 9 → s i = s' i) → L kd s = L kd s') ∧ ∀ τ : Mm, (∀ i, lawP i → τ 0 i = m i) → τ 10 9 = 381 → τ 10 10 = (if 1 ≤ m 1 then m 2 else 0) → τ 10 11 = 0 → τ 10 12 = -1 → τ 10 13 = 0 → z01 (τ 10 15) → z01 (τ 10 16) → ∃ n τ', X7_read τ 1 = some (n, τ') ∧ (∀ r, r ≠ 10 → τ' r = τ r) ∧ (∀ j, j ≠ 11 → j ≠ 12 → j ≠ 13 → j ≠ 17 → j ≠ 18 → τ' 10 j = τ 10 j) ∧ τ' 10 17 = τ 10 17 + (L 0 (factT τ) - L 1 (factT τ)) ∧ τ' 10 18 = τ 10 18 + L 2 (factT τ)
theorem LR.congr {L : Nat → (Nat → Int32) → Int32} {m m' : Nat → Int32} (h : LR L m) (e : ∀ i, lawP i → m' i = m i) : LR L m' :=
  ⟨h.1, fun τ h0 h1 h2 => h.2 τ (fun i hi => (h0 i hi).trans (e i hi)) h1 (by rw [h2, e 1 (Or.inl rfl), e 2 (Or.inr (Or.inl rfl))])⟩
theorem T_asks {L : Nat → (Nat → Int32) → Int32} (h : WR w (τ 0)) (hw : WI w) {d : Nat} (hd : d < nD w) (hL : LR L (τ 0)) : Rn (X7_asks τ (nI d)) (fun τ' => Tr τ τ' w ∧ τ' 10 17 = ripV L w d ∧ τ' 10 18 = costV L w d) := by
  have hD := hw.D.2
  have hK := hw.K.2
  have hd8 : d < 8 := by omega
  obtain ⟨i, hi, e1⟩ := hw.ink hd
  obtain ⟨s, hs, es⟩ := sea_e hw
  have e4 : τ 0 6 = w 0 4 := (h 0 4 (by decide)).symm
  have e5 : τ 0 7 = w 0 5 := (h 0 5 (by decide)).symm
  unfold X7_asks
  rw [show τ 0 6 - τ 0 6 / (4 : Int32) * (4 : Int32) = nI s from by rw [e4]; exact es]
  simp only [obs]
  rw [T_of0 h hd8, e1]
  simp only [obs]
  rw [T_soaked h (by omega) hs]
  simp only [obs]
  have t1 := Tr.scr h (j := 17) rfl ((1 : Int32) + w 13 i * w 9 s / 10)
  generalize q1 : mup τ 10 17 ((1 : Int32) + w 13 i * w 9 s / 10) = τ1 at t1 ⊢
  have a17 : τ1 10 17 = 1 + w 13 i * w 9 s / 10 := by rw [← q1, mup_s]
  have t2 := t1.tr (Tr.scr t1.1 (j := 18) rfl (τ1 0 7))
  have b7 : τ1 0 7 = w 0 5 := (t1.1 0 5 (by decide)).symm
  generalize q2 : mup τ1 10 18 (τ1 0 7) = τ2 at t2 ⊢
  have a18 : τ2 10 18 = w 0 5 := by rw [← q2, mup_s, b7]
  have b17 : τ2 10 17 = 1 + w 13 i * w 9 s / 10 := by rw [← q2, mup_j (by decide), a17]
  rw [show sto 7 τ2 5 (0 : Int32) (nI d) = some (mup τ2 5 0 (nI d)) from stoN (k := 0) (by decide) (by decide)]
  simp only [obs]
  have t3 := t2.tr (Tr.fact t2.1 0 (nI d))
  rw [T_of0 t3.1 hd8]
  simp only [obs]
  rw [show ∀ (τ : Mm) x, sto 7 τ 5 (1 : Int32) x = some (mup τ 5 1 x) from fun τ x => stoN (k := 1) (by decide) (by decide)]
  simp only [obs]
  have t4 := t3.tr (Tr.fact t3.1 1 (w 16 d))
  rw [T_of3 t4.1 hd8]
  simp only [obs]
  rw [show ∀ (τ : Mm) x, sto 7 τ 5 (2 : Int32) x = some (mup τ 5 2 x) from fun τ x => stoN (k := 2) (by decide) (by decide)]
  simp only [obs]
  have t5 := t4.tr (Tr.fact t4.1 2 (w 19 d))
  rw [T_of8 t5.1 hd8]
  simp only [obs]
  rw [show ∀ (τ : Mm) x, sto 7 τ 5 (3 : Int32) x = some (mup τ 5 3 x) from fun τ x => stoN (k := 3) (by decide) (by decide)]
  simp only [obs]
  have t6 := t5.tr (Tr.fact t5.1 3 (w 24 d))
  rw [show ∀ (τ : Mm) x, sto 7 τ 5 (4 : Int32) x = some (mup τ 5 4 x) from fun τ x => stoN (k := 4) (by decide) (by decide)]
  simp only [obs]
  have t7 := t6.tr (Tr.fact t6.1 4 (nI s))
  rw [show (11 : Int32) = nI 11 from rfl, nI_add, ldN (by omega) (by decide)]
  simp only [obs]
  have e9 := (t7.1 9 s hs).symm
  rw [show wX 9 s = 11 + s from rfl] at e9
  rw [e9]
  rw [show ∀ (τ : Mm) x, sto 7 τ 5 (5 : Int32) x = some (mup τ 5 5 x) from fun τ x => stoN (k := 5) (by decide) (by decide)]
  simp only [obs]
  have t8 := t7.tr (Tr.fact t7.1 5 (w 9 s))
  rw [show ∀ (τ : Mm) x, sto 7 τ 5 (6 : Int32) x = some (mup τ 5 6 x) from fun τ x => stoN (k := 6) (by decide) (by decide)]
  simp only [obs]
  have e10 := (t8.1 0 5 (by decide)).symm
  rw [show wX 0 5 = 7 from rfl] at e10
  rw [e10]
  have t9 := t8.tr (Tr.fact t8.1 6 (w 0 5))
  generalize q9 : mup (mup (mup (mup (mup (mup (mup τ2 5 0 (nI d)) 5 1 (w 16 d)) 5 2 (w 19 d)) 5 3 (w 24 d)) 5 4 (nI s)) 5 5 (w 9 s)) 5 6 (w 0 5) = τ9 at t9 ⊢
  have f10 : τ9 10 = τ2 10 := by rw [← q9]; repeat rw [mup_r (by decide)]
  have f5 : ∀ i, i < 7 → τ9 5 i = fac w d i := by
    intro i hi
    rw [← q9]
    match i, hi with
    | 0, _ => simp [mup, upd, fac]
    | 1, _ => simp [mup, upd, fac]
    | 2, _ => simp [mup, upd, fac]
    | 3, _ => simp [mup, upd, fac]
    | 4, _ => simp [mup, upd, fac, es]
    | 5, _ => simp only [mup, upd, fac, es, tN_nI (show s < 2 ^ 31 by omega)]; simp [upd]
    | 6, _ => simp [mup, upd, fac]
  have c17 : τ9 10 17 = 1 + w 13 i * w 9 s / 10 := by rw [f10, b17]
  have c18 : τ9 10 18 = w 0 5 := by rw [f10, a18]
  have fin : ∀ (b7 b8 en : Int32), b7 = fac w d 7 → b8 = fac w d 8 → en = (if 1 ≤ τ9 0 1 then τ9 0 2 else 0) → Rn (X7_asks_J195 (mup (mup (mup (mup τ9 10 15 b7) 10 16 b8) 10 12 (-1)) 10 9 381) (τ9 10 12) en) (fun τ' => Tr τ τ' w ∧ τ' 10 17 = ripV L w d ∧ τ' 10 18 = costV L w d) := by
    intro b7 b8 en h7 h8 hen
    unfold X7_asks_J195
    simp only [obs]
    generalize qr : mup (mup (mup (mup (mup (mup (mup τ9 10 15 b7) 10 16 b8) 10 12 (-1)) 10 9 381) 10 10 en) 10 11 0) 10 13 0 = τr
    have r0 : ∀ r, r ≠ 10 → τr r = τ9 r := by
      intro r hr
      rw [← qr]
      repeat rw [mup_r hr]
    have rj : ∀ j, j ≠ 9 → j ≠ 10 → j ≠ 11 → j ≠ 12 → j ≠ 13 → j ≠ 15 → j ≠ 16 → τr 10 j = τ9 10 j := by
      intro j h1 h2 h3 h4 h5 h6 h7
      rw [← qr, mup_j h5, mup_j h3, mup_j h2, mup_j h1, mup_j h4, mup_j h7, mup_j h6]
    have v9 : τr 10 9 = 381 := by rw [← qr, mup_j (by decide), mup_j (by decide), mup_j (by decide), mup_s]
    have v10 : τr 10 10 = en := by rw [← qr, mup_j (by decide), mup_j (by decide), mup_s]
    have v11 : τr 10 11 = 0 := by rw [← qr, mup_j (by decide), mup_s]
    have v13 : τr 10 13 = 0 := by rw [← qr, mup_s]
    have v12 : τr 10 12 = -1 := by rw [← qr, mup_j (by decide), mup_j (by decide), mup_j (by decide), mup_j (by decide), mup_s]
    have v15 : τr 10 15 = b7 := by rw [← qr, mup_j (by decide), mup_j (by decide), mup_j (by decide), mup_j (by decide), mup_j (by decide), mup_j (by decide), mup_s]
    have v16 : τr 10 16 = b8 := by rw [← qr, mup_j (by decide), mup_j (by decide), mup_j (by decide), mup_j (by decide), mup_j (by decide), mup_s]
    have hrow : ∀ i, lawP i → τr 0 i = τ 0 i := fun i hi => by rw [r0 0 (by decide)]; exact t9.2.1 i hi
    obtain ⟨n, τ', qq, p1, p2, p3, p4⟩ := hL.2 τr hrow v9 (by rw [v10, hen, t9.2.1 1 (Or.inl rfl), t9.2.1 2 (Or.inr (Or.inl rfl))]) v11 v12 v13 (by rw [v15, h7]; exact zb01 _) (by rw [v16, h8]; exact zb01 _)
    have hfac : ∀ kd, L kd (factT τr) = L kd (fac w d) := by
      intro kd
      refine hL.1 kd _ _ (fun i hi => ?_)
      unfold factT
      by_cases c : i < 7
      · rw [if_pos c, r0 5 (by decide), f5 i c]
      · rw [if_neg c]
        by_cases c7 : i = 7
        · subst c7
          rw [if_pos rfl, v15, h7]
        · have : i = 8 := by omega
          subst this
          rw [if_neg (by decide), if_pos rfl, v16, h8]
    rw [qq]
    simp only [obs, greater_s]
    refine Rn.mk ⟨⟨?_, fun i hi => ?_, fun r h1 h2 h3 => ?_, fun j hj => ?_, fun j hj _ => ?_⟩, ?_, ?_⟩
    · rw [mup_r (by decide), mup_r (by decide), p1 0 (by decide), r0 0 (by decide)]
      exact t9.1
    · rw [mup_r (by decide), mup_r (by decide), p1 0 (by decide)]
      exact hrow i hi
    · rw [mup_r h3, mup_r h3, p1 r h3, r0 r h3]
      exact t9.2.2.1 r h1 h2 h3
    · have hj2 : j ≠ 9 ∧ j ≠ 10 ∧ j ≠ 11 ∧ j ≠ 13 ∧ j ≠ 15 ∧ j ≠ 16 ∧ j ≠ 17 ∧ j ≠ 18 := by
        refine ⟨?_, ?_, ?_, ?_, ?_, ?_, ?_, ?_⟩ <;> (rintro rfl; exact absurd hj (by decide))
      obtain ⟨g1, g2, g3, g4, g5, g6, g7, g8⟩ := hj2
      rw [mup_j g7]
      by_cases c : j = 12
      · subst c
        rw [mup_s]
        exact t9.2.2.2.1 12 rfl
      · rw [mup_j c, p2 j g3 c g4 g7 g8, rj j g1 g2 g3 c g4 g5 g6]
        exact t9.2.2.2.1 j hj
    · rw [mup_j (show j ≠ 17 by omega), mup_j (show j ≠ 12 by omega), p2 j (by omega) (by omega) (by omega) (by omega) (by omega)]
      rcases hj with rfl | rfl
      · rw [v15, h7]; exact zb01 _
      · rw [v16, h8]; exact zb01 _
    · rw [mup_s, mup_j (by decide), p3, hfac, hfac, rj 17 (by decide) (by decide) (by decide) (by decide) (by decide) (by decide) (by decide), c17, asc]
      have eX : ripX L w d = ((1 + w 13 i * w 9 s / 10) + L 0 (fac w d)) - L 1 (fac w d) := by
        unfold ripX
        rw [e1, es, tN_nI (by omega), tN_nI (by omega)]
      unfold ripV
      rw [eX]
    · rw [mup_j (by decide), mup_j (by decide), p4, hfac, rj 18 (by decide) (by decide) (by decide) (by decide) (by decide) (by decide) (by decide), c18]
      rfl
  have mid : ∀ (b7 b8 : Int32), b7 = fac w d 7 → b8 = fac w d 8 → Rn (X7_asks_J154 (mup τ9 10 15 b7) b8) (fun τ' => Tr τ τ' w ∧ τ' 10 17 = ripV L w d ∧ τ' 10 18 = costV L w d) := by
    intro b7 b8 h7 h8
    unfold X7_asks_J154
    rw [show zb b8 = some b8 from by rw [h8]; exact zb_b01 _]
    simp only [obs]
    rw [show mup (mup τ9 10 15 b7) 10 16 b8 10 12 = τ9 10 12 from by rw [mup_j (by decide), mup_j (by decide)]]
    rw [show mup (mup (mup (mup τ9 10 15 b7) 10 16 b8) 10 12 (-1)) 10 9 381 0 = τ9 0 from by repeat rw [mup_r (by decide)]]
    by_cases c : 1 ≤ τ9 0 1
    · rw [if_pos c]
      exact fin b7 b8 _ h7 h8 (by rw [if_pos c])
    · rw [if_neg c]
      exact fin b7 b8 _ h7 h8 (by rw [if_neg c])
  have top : ∀ b7 : Int32, b7 = fac w d 7 → Rn (X7_asks_J134 τ9 (nI d) b7) (fun τ' => Tr τ τ' w ∧ τ' 10 17 = ripV L w d ∧ τ' 10 18 = costV L w d) := by
    intro b7 h7
    unfold X7_asks_J134
    rw [show zb b7 = some b7 from by rw [h7]; exact zb_b01 _]
    simp only [obs]
    rw [T_of6 (τ := mup τ9 10 15 b7) (w := w) (by rw [mup_r (by decide)]; exact t9.1) hd8]
    simp only [obs]
    by_cases c : w 22 d = -1
    · rw [if_pos c]
      exact mid b7 0 h7 (by simp [fac, c, b01])
    · rw [if_neg c]
      exact mid b7 1 h7 (by simp [fac, c, b01])
  rw [T_of5 t9.1 hd8]
  simp only [obs]
  by_cases c : w 21 d = -1
  · rw [if_pos c]
    exact top 0 (by simp [fac, c, b01])
  · rw [if_neg c]
    exact top 1 (by simp [fac, c, b01])
end TW2
