/-! PURE: the component's law, ripening, seasons; L: what a world's law says, a kind and facts given -/
def lawF (Λ : Nat → Nat → (Nat → Int32) → Int32) (x : Option Nat) (kd : Nat) (s : Nat → Int32) : Int32 := match x with
  | none => 0
  | some a => Λ a kd s
def LamOK (Λ : Nat → Nat → (Nat → Int32) → Int32) (x : Option Nat) : Prop := ∀ a, x = some a → ∀ kd s s', (∀ i, i < 9 → s i = s' i) → Λ a kd s = Λ a kd s'
def fac (w : Mm) (d : Nat) : Nat → Int32 := fun i => match i with
  | 0 => nI d
  | 1 => w 16 d
  | 2 => w 19 d
  | 3 => w 24 d
  | 4 => seaV w
  | 5 => w 9 (tN (seaV w))
  | 6 => w 0 5
  | 7 => b01 (decide (¬ w 21 d = -1))
  | 8 => b01 (decide (¬ w 22 d = -1))
  | _ => 0
/-- the scene is the law's alone -/
def sc3 (σ : Cs) (f : Nat → Int32) : Cs := cou σ (mset (co σ) 3 f)
theorem cw_sc3 {σ : Cs} {f : Nat → Int32} : cw (sc3 σ f) = cw σ := rfl
theorem cl_sc3 {σ : Cs} {f : Nat → Int32} : cl (sc3 σ f) = cl σ := rfl
theorem co_sc3 {σ : Cs} {f : Nat → Int32} : co (sc3 σ f) = mset (co σ) 3 f := rfl
theorem cw_cou {σ : Cs} {x : Mm} : cw (cou σ x) = cw σ := rfl
theorem cl_cou {σ : Cs} {x : Mm} : cl (cou σ x) = cl σ := rfl
theorem co_cou {σ : Cs} {x : Mm} : co (cou σ x) = x := rfl
theorem sc3_self {σ : Cs} : sc3 σ (co σ 3) = σ := by
  obtain ⟨w, m, x⟩ := σ
  show (w, mset m 3 (m 3), x) = (w, m, x)
  congr 2
  funext a
  unfold mset
  by_cases h : a = 3
  · rw [if_pos h, h]
  · rw [if_neg h]
theorem sc3_0 {σ : Cs} {j : Nat} {x : Int32} : cou σ (mup (co σ) 3 j x) = sc3 σ (upd (co σ 3) j x) := by
  unfold sc3
  rw [mset_upd]
theorem sc3_s {σ : Cs} {f : Nat → Int32} {j : Nat} {x : Int32} : cou (sc3 σ f) (mup (mset (co σ) 3 f) 3 j x) = sc3 σ (upd f j x) := by
  rw [mup_mset]
  rfl
theorem st3 {σ : Cs} {f : Nat → Int32} {j : Nat} {x : Int32} : cou (sc3 σ f) (mup (co (sc3 σ f)) 3 j x) = sc3 σ (upd f j x) := sc3_s
theorem hr0 {r j : Nat} (h : r ≠ 0) : r = 0 → 4 ≤ j := fun e => absurd e h
theorem sc3_sc3 {σ : Cs} {f g : Nat → Int32} : sc3 (sc3 σ f) g = sc3 σ g := by
  unfold sc3
  rw [co_cou]
  show (σ.1, mset (mset (co σ) 3 f) 3 g, σ.2.2) = (σ.1, mset (co σ) 3 g, σ.2.2)
  congr 2
  funext a
  unfold mset
  by_cases h : a = 3 <;> simp [h]
theorem cw_cwu {σ : Cs} {k : Nat} {x : Mm} : cw (cwu σ k x) k = x := if_pos rfl
theorem cw_cwu_n {σ : Cs} {k i : Nat} {x : Mm} (h : i ≠ k) : cw (cwu σ k x) i = cw σ i := if_neg h
theorem cl_cwu {σ : Cs} {k : Nat} {x : Mm} : cl (cwu σ k x) = cl σ := rfl
theorem co_cwu {σ : Cs} {k : Nat} {x : Mm} : co (cwu σ k x) = co σ := rfl
theorem cwu_cwu {σ : Cs} {k : Nat} {x y : Mm} : cwu (cwu σ k x) k y = cwu σ k y := by
  obtain ⟨w, m⟩ := σ
  show ((fun i => if i = k then y else if i = k then x else w i), m) = ((fun i => if i = k then y else w i), m)
  congr 1
  funext i
  by_cases h : i = k <;> simp [h]
theorem sc3_cwu {σ : Cs} {k : Nat} {x : Mm} {f : Nat → Int32} : sc3 (cwu σ k x) f = cwu (sc3 σ f) k x := rfl
theorem sea_e {w : Mm} (h : WI w) : ∃ j, j < 4 ∧ seaV w = nI j := by
  obtain ⟨T, h1, h2⟩ := h.T
  refine ⟨T % 4, Nat.mod_lt _ (by decide), ?_⟩
  unfold seaV
  rw [h2]
  exact pk_rem (a := T) (d := 4) (by omega) (by decide) (by decide)
theorem zb_b01 (b : Bool) : zb (b01 b) = some (b01 b) := by cases b <;> rfl
theorem X1_byLaw_s {Λ : Nat → Nat → (Nat → Int32) → Int32} {σ : Cs} {k d : Nat} (kd : Nat) (h : WI (cw σ k)) (hd : d < nD (cw σ k)) (hΛ : LamOK Λ (cl σ k)) : ∃ f, X1_byLaw Λ σ k kd (nI d) = some (lawF Λ (cl σ k) kd (fac (cw σ k) d), sc3 σ f) := by
  have hD := h.D.2
  have hd8 : d < 8 := by omega
  obtain ⟨j, hj, ej⟩ := sea_e h
  unfold X1_byLaw
  cases e : cl σ k with
  | none => exact ⟨co σ 3, by rw [sc3_self]; rfl⟩
  | some a =>
    have H8 : (8 : Nat) < 2 ^ 31 := by decide
    have key : ∀ (f : Nat → Int32) (y : Int32), y = b01 (decide (¬ cw σ k 21 d = -1)) → f 0 = nI d → f 1 = cw σ k 16 d → f 2 = cw σ k 19 d → f 3 = cw σ k 24 d → f 4 = nI j → f 5 = cw σ k 9 j → f 6 = cw σ k 0 5 → ∃ g, X1_byLaw_J103 Λ (sc3 σ f) k kd (nI d) y = some (lawF Λ (some a) kd (fac (cw σ k) d), sc3 σ g) := by
      intro f y hy h0 h1 h2 h3 h4 h5 h6
      unfold X1_byLaw_J103
      subst hy
      rw [zb_b01]
      generalize eA : b01 (decide (¬ cw σ k 21 d = -1)) = A
      rw [obs, obs, st3]
      simp only [cw_sc3, ldN hd8 H8]
      rw [obs, obs, obs, st3, st3]
      simp only [cl_sc3, e, oes, co_sc3, mset_e]
      have fin : ∀ z : Int32, z = b01 (decide (¬ cw σ k 22 d = -1)) → ((zb (upd (upd f 7 A) 8 z 7)).bind fun _ => (zb (upd (upd f 7 A) 8 z 8)).bind fun _ => some (Λ a kd (upd (upd f 7 A) 8 z), sc3 σ (upd (upd f 7 A) 8 z))) = some (lawF Λ (some a) kd (fac (cw σ k) d), sc3 σ (upd (upd f 7 A) 8 z)) := by
        intro z hz
        rw [show upd (upd f 7 A) 8 z 7 = A from by simp [upd], show upd (upd f 7 A) 8 z 8 = z from by simp [upd], ← eA, hz, zb_b01, zb_b01]
        simp only [obs]
        have : Λ a kd (upd (upd f 7 (b01 (decide (¬ cw σ k 21 d = -1)))) 8 (b01 (decide (¬ cw σ k 22 d = -1)))) = Λ a kd (fac (cw σ k) d) := by
          refine hΛ a e kd _ _ (fun i hi => ?_)
          match i, hi with
          | 0, _ => simp [upd, fac, h0]
          | 1, _ => simp [upd, fac, h1]
          | 2, _ => simp [upd, fac, h2]
          | 3, _ => simp [upd, fac, h3]
          | 4, _ => simp [upd, fac, h4, ej]
          | 5, _ => simp only [upd, fac, ej, tN_nI (show j < 2 ^ 31 by omega)]; simpa using h5
          | 6, _ => simp [upd, fac, h6]
          | 7, _ => simp [upd, fac]
          | 8, _ => simp [upd, fac]
        rw [this]
        rfl
      by_cases c : cw σ k 22 d = -1
      · rw [if_pos c]
        exact ⟨_, fin 0 (by simp [c, b01])⟩
      · rw [if_neg c]
        exact ⟨_, fin 1 (by simp [c, b01])⟩
    rw [oes, obs, sc3_0]
    generalize e0 : upd (co σ 3) 0 (nI d) = f0
    have a0 : f0 0 = nI d := by rw [← e0]; simp [upd]
    simp only [cw_sc3, ldN hd8 H8]
    rw [obs, obs, st3]
    simp only [cw_sc3, ldN hd8 H8]
    rw [obs, obs, st3]
    simp only [cw_sc3, ldN hd8 H8]
    rw [obs, obs, st3]
    simp only [cw_sc3, X2_season_s]
    rw [obs, obs, st3]
    simp only [cw_sc3]
    rw [obs, ej, ldN hj (by decide), obs, obs, st3]
    simp only [cw_sc3]
    rw [obs, st3]
    simp only [cw_sc3, ldN hd8 H8]
    rw [obs]
    by_cases c : cw σ k 21 d = -1
    · rw [if_pos c]
      exact key _ 0 (by simp [c, b01]) (by simp [upd, a0]) (by simp [upd]) (by simp [upd]) (by simp [upd]) (by simp [upd]) (by simp [upd]) (by simp [upd])
    · rw [if_neg c]
      exact key _ 1 (by simp [c, b01]) (by simp [upd, a0]) (by simp [upd]) (by simp [upd]) (by simp [upd]) (by simp [upd]) (by simp [upd]) (by simp [upd])
def ripX (L : Nat → (Nat → Int32) → Int32) (w : Mm) (d : Nat) : Int32 := ((1 + w 13 (tN (w 16 d)) * w 9 (tN (seaV w)) / 10) + L 0 (fac w d)) - L 1 (fac w d)
def ripV (L : Nat → (Nat → Int32) → Int32) (w : Mm) (d : Nat) : Int32 := if 0 < ripX L w d then ripX L w d else 0
def costV (L : Nat → (Nat → Int32) → Int32) (w : Mm) (d : Nat) : Int32 := w 0 5 + L 2 (fac w d)
theorem X1_ripensBy_s {Λ : Nat → Nat → (Nat → Int32) → Int32} {σ : Cs} {k d : Nat} (h : WI (cw σ k)) (hd : d < nD (cw σ k)) (hΛ : LamOK Λ (cl σ k)) : ∃ f, X1_ripensBy Λ σ k (nI d) = some (ripV (lawF Λ (cl σ k)) (cw σ k) d, sc3 σ f) := by
  have hD := h.D.2
  have hK := h.K.2
  obtain ⟨j, hj, ej⟩ := sea_e h
  obtain ⟨i, hi, ei⟩ := h.ink hd
  obtain ⟨f, e1⟩ := X1_byLaw_s 0 h hd hΛ
  obtain ⟨g, e2⟩ := X1_byLaw_s (σ := sc3 σ f) (k := k) (d := d) 1 (by rw [cw_sc3]; exact h) (by rw [cw_sc3]; exact hd) (by rw [cl_sc3]; exact hΛ)
  rw [cw_sc3, cl_sc3, sc3_sc3] at e2
  refine ⟨g, ?_⟩
  unfold X1_ripensBy
  rw [ldN (by omega) (by decide), ei]
  simp only [obs]
  rw [ldN (by omega) (by decide), X2_season_s, ej]
  simp only [obs]
  rw [ldN hj (by decide), e1]
  simp only [obs]
  rw [e2]
  simp only [obs]
  have eX : ripX (lawF Λ (cl σ k)) (cw σ k) d = ((1 + cw σ k 13 i * cw σ k 9 j / 10) + lawF Λ (cl σ k) 0 (fac (cw σ k) d)) - lawF Λ (cl σ k) 1 (fac (cw σ k) d) := by
    unfold ripX
    rw [ei, ej, tN_nI (by omega), tN_nI (by omega)]
  rw [← eX]
  rfl
theorem X1_costsOf_s {Λ : Nat → Nat → (Nat → Int32) → Int32} {σ : Cs} {k d : Nat} (h : WI (cw σ k)) (hd : d < nD (cw σ k)) (hΛ : LamOK Λ (cl σ k)) : ∃ f, X1_costsOf Λ σ k (nI d) = some (costV (lawF Λ (cl σ k)) (cw σ k) d, sc3 σ f) := by
  obtain ⟨f, e1⟩ := X1_byLaw_s 2 h hd hΛ
  refine ⟨f, ?_⟩
  unfold X1_costsOf
  rw [e1]
  rfl
def ripW (L : Nat → (Nat → Int32) → Int32) (w : Mm) (d : Nat) (spray : Int32) : Mm :=
  let w1 := mup w 24 d (if (w 24 d + ripV L w d) + spray < 999 then (w 24 d + ripV L w d) + spray else 999)
  if w1 24 d < w 11 (tN (w 16 d)) then w1 else upW w1 d
theorem X1_ripens_s {Λ : Nat → Nat → (Nat → Int32) → Int32} {σ : Cs} {k d : Nat} (spray : Int32) (h : WI (cw σ k)) (hd : d < nD (cw σ k)) (hΛ : LamOK Λ (cl σ k)) : ∃ f, X1_ripens Λ σ k (nI d) spray = some (cwu (sc3 σ f) k (ripW (lawF Λ (cl σ k)) (cw σ k) d spray)) := by
  have hD := h.D.2
  have hK := h.K.2
  obtain ⟨i, hi, ei⟩ := h.ink hd
  obtain ⟨f, e1⟩ := X1_ripensBy_s h hd hΛ
  refine ⟨f, ?_⟩
  unfold X1_ripens
  rw [ldN (by omega) (by decide)]
  simp only [obs]
  rw [e1]
  simp only [obs, cw_sc3]
  rw [stofN (by omega) (by decide)]
  simp only [obs, mset_upd, cw_cwu]
  rw [ldN (by omega) (by decide), ldN (by omega) (by decide), mup_r (show (16 : Nat) ≠ 24 by decide), ei]
  simp only [obs]
  rw [mup_r (show (11 : Nat) ≠ 24 by decide), ldN (show i < 6 by omega) (by decide), X2_comesUp_s _ (by omega)]
  simp only [obs, cwu_cwu]
  unfold ripW
  rw [ei, tN_nI (by omega), mup_s]
  by_cases c : (if cw σ k 24 d + ripV (lawF Λ (cl σ k)) (cw σ k) d + spray < 999 then cw σ k 24 d + ripV (lawF Λ (cl σ k)) (cw σ k) d + spray else 999) < cw σ k 11 i
  · simp only [if_pos c, mup_s]
  · simp only [if_neg c, mup_s]
/-! worlds stay well -/
theorem cap_N {x : Int32} {b : Nat} (hb : b < 2 ^ 31) (h0 : ¬ x < 0) : isN (if x < nI b then x else nI b) b := by
  obtain ⟨j, hj, rfl⟩ := nI_of h0
  by_cases c : nI j < nI b
  · rw [if_pos c]
    exact isN.mk (by have := (nI_ltI hj hb).mp c; omega)
  · rw [if_neg c]
    exact isN.mk (Nat.le_refl _)
theorem WI.tell {w : Mm} (h : WI w) (a b c : Int32) : WI (tellW w a b c) ∧ sameC w (tellW w a b c) := by
  unfold tellW
  have h1 := h.log (upd (upd (upd (upd (va_cpy (w 27) (w 27) 0 4 236) 0 (w 0 4)) 1 a) 2 b) 3 c)
  refine ⟨h1.mup (by decide) (by decide) ?_, sameC_log.tr (sameC_mup (by first | decide | exact hr0 (by decide)))⟩
  obtain ⟨g, hg, eg⟩ := (show isN (w 0 7) 60 from h.1 0 7 (by decide))
  show isN _ 60
  rw [eg, nI_1]
  exact cap_N (b := 60) (by decide) (nI_pos (by omega))
theorem tell_r {w : Mm} {a b c : Int32} {r : Nat} (h : r ≠ 0) (h2 : r ≠ 27) : tellW w a b c r = w r := by
  unfold tellW
  rw [mup_r h, mset_r h2]
theorem tell_0 {w : Mm} {a b c : Int32} {j : Nat} (h : j ≠ 7) : tellW w a b c 0 j = w 0 j := by
  unfold tellW
  rw [mup_j h, mset_r (by decide)]
theorem wi_upW {w : Mm} (h : WI w) (d : Nat) : WI (upW w d) ∧ sameC w (upW w d) := by
  unfold upW
  have a1 : WI (mup w 26 d 1) := h.mup (by first | decide | exact hr0 (by decide)) (by decide) trivial
  have s1 : sameC w (mup w 26 d 1) := sameC_mup (by first | decide | exact hr0 (by decide))
  have a2 : WI (mup (mup w 26 d 1) 25 d (w 0 4)) := a1.mup (by first | decide | exact hr0 (by decide)) (by decide) trivial
  have s2 : sameC w (mup (mup w 26 d 1) 25 d (w 0 4)) := s1.tr (sameC_mup (by first | decide | exact hr0 (by decide)))
  exact ⟨(a2.tell _ _ _).1, s2.tr (a2.tell _ _ _).2⟩
theorem wi_ripW {w : Mm} (h : WI w) (L : Nat → (Nat → Int32) → Int32) (d : Nat) (s : Int32) : WI (ripW L w d s) ∧ sameC w (ripW L w d s) := by
  unfold ripW
  simp only []
  generalize (if (w 24 d + ripV L w d) + s < 999 then (w 24 d + ripV L w d) + s else 999) = v
  have a1 : WI (mup w 24 d v) := h.mup (hr0 (by decide)) (by decide) trivial
  have s1 : sameC w (mup w 24 d v) := sameC_mup (hr0 (by decide))
  split
  · exact ⟨a1, s1⟩
  · exact ⟨(wi_upW a1 d).1, s1.tr (wi_upW a1 d).2⟩
theorem wi_fadeW {w : Mm} (h : WI w) (d : Nat) : WI (fadeW w d) ∧ sameC w (fadeW w d) := by
  unfold fadeW
  split
  · have a1 : WI (mup w 26 d 2) := h.mup (by first | decide | exact hr0 (by decide)) (by decide) trivial
    have s1 : sameC w (mup w 26 d 2) := sameC_mup (by first | decide | exact hr0 (by decide))
    exact ⟨(a1.tell _ _ _).1, s1.tr (a1.tell _ _ _).2⟩
  · exact ⟨h, sameC.rf⟩
theorem or_b01 {x : Int32} (h : x = 0 ∨ x = 1) (b : Bool) : (x ||| b01 b) = 0 ∨ (x ||| b01 b) = 1 := by
  rcases h with h | h <;> cases b <;> rw [h] <;> decide
theorem wi_payW {w : Mm} (h : WI w) {d : Nat} (hd : d < nD w) : WI (payW w d) ∧ sameC w (payW w d) := by
  obtain ⟨a, ha, e1⟩ := h.deb hd
  have hP := h.P.2
  unfold payW
  simp only []
  rw [e1, tN_nI (by omega)]
  have k1 : ∀ x, WI (mup w 10 a x) ∧ sameC w (mup w 10 a x) := fun x => ⟨h.mup (by first | decide | exact hr0 (by decide)) (by decide) trivial, sameC_mup (by first | decide | exact hr0 (by decide))⟩
  have k2 : ∀ x b y, WI (mup (mup w 10 a x) 10 b y) ∧ sameC w (mup (mup w 10 a x) 10 b y) := fun x b y => ⟨(k1 x).1.mup (by first | decide | exact hr0 (by decide)) (by decide) trivial, (k1 x).2.tr (sameC_mup (by first | decide | exact hr0 (by decide)))⟩
  have k3 : ∀ x b y z, (z = 0 ∨ z = 1) → WI (mup (mup (mup w 10 a x) 10 b y) 14 a z) ∧ sameC w (mup (mup (mup w 10 a x) 10 b y) 14 a z) := fun x b y z hz => ⟨(k2 x b y).1.mup (hr0 (by decide)) (by decide) hz, (k2 x b y).2.tr (sameC_mup (by first | decide | exact hr0 (by decide)))⟩
  have k4 : ∀ x b y z, (z = 0 ∨ z = 1) → WI (mup (mup (mup (mup w 10 a x) 10 b y) 14 a z) 15 d 1) ∧ sameC w (mup (mup (mup (mup w 10 a x) 10 b y) 14 a z) 15 d 1) := fun x b y z hz => ⟨(k3 x b y z hz).1.mup (hr0 (by decide)) (by decide) (Or.inr rfl), (k3 x b y z hz).2.tr (sameC_mup (by first | decide | exact hr0 (by decide)))⟩
  have hz : ∀ x b y q, (mup (mup w 10 a x) 10 b y 14 a ||| b01 q) = 0 ∨ (mup (mup w 10 a x) 10 b y 14 a ||| b01 q) = 1 := by
    intro x b y q
    rw [mup_r (by decide), mup_r (by decide)]
    exact or_b01 (h.broke (by omega)) q
  generalize w 10 a - payN w d = X
  generalize tN (w 18 d) = B
  generalize (if mup w 10 a X 10 B + payN w d < 9999 then mup w 10 a X 10 B + payN w d else 9999) = Y
  have k5 := k4 X B Y (mup (mup w 10 a X) 10 B Y 14 a ||| b01 (decide (¬ payN w d = w 19 d))) (hz X B Y _)
  exact ⟨(k5.1.tell _ _ _).1, k5.2.tr (k5.1.tell _ _ _).2⟩
/-! a season -/
def seaA (L : Nat → (Nat → Int32) → Int32) (s : Int32) : Nat → Mm → Mm
  | 0, w => w
  | n + 1, w => if seaA L s n w 26 n = 0 then ripW L (seaA L s n w) n s else seaA L s n w
def seaB : Nat → Mm → Mm
  | 0, w => w
  | n + 1, w => fadeW (seaB n w) n
def seaC : Nat → Mm → Mm
  | 0, w => w
  | n + 1, w => if payC (seaC n w) n = true then payW (seaC n w) n else seaC n w
def seaK : Nat → Mm → Int32
  | 0, _ => 0
  | n + 1, w => seaK n w + b01 (payC (seaC n w) n)
def seaM (L : Nat → (Nat → Int32) → Int32) (s : Int32) (w : Mm) : Mm := seaB (nD w) (seaA L s (nD w) w)
def seaW (L : Nat → (Nat → Int32) → Int32) (s : Int32) (w : Mm) : Mm :=
  let c := seaC (nD w) (seaM L s w)
  mup c 0 4 (if c 0 4 + 1 < 9999 then c 0 4 + 1 else 9999)
def seaN (L : Nat → (Nat → Int32) → Int32) (s : Int32) (w : Mm) : Int32 := seaK (nD w) (seaM L s w)
theorem wi_seaA {w : Mm} (h : WI w) (L : Nat → (Nat → Int32) → Int32) (s : Int32) (n : Nat) : WI (seaA L s n w) ∧ sameC w (seaA L s n w) := by
  induction n with
  | zero => exact ⟨h, sameC.rf⟩
  | succ n ih =>
    show WI (if _ then _ else _) ∧ sameC w (if _ then _ else _)
    split
    · exact ⟨(wi_ripW ih.1 L n s).1, ih.2.tr (wi_ripW ih.1 L n s).2⟩
    · exact ih
theorem wi_seaB {w : Mm} (h : WI w) (n : Nat) : WI (seaB n w) ∧ sameC w (seaB n w) := by
  induction n with
  | zero => exact ⟨h, sameC.rf⟩
  | succ n ih => exact ⟨(wi_fadeW ih.1 n).1, ih.2.tr (wi_fadeW ih.1 n).2⟩
theorem wi_seaC {w : Mm} (h : WI w) {n : Nat} (hn : n ≤ nD w) : WI (seaC n w) ∧ sameC w (seaC n w) := by
  induction n with
  | zero => exact ⟨h, sameC.rf⟩
  | succ n ih =>
    have ih := ih (by omega)
    show WI (if _ then _ else _) ∧ sameC w (if _ then _ else _)
    split
    · have := wi_payW ih.1 (d := n) (by rw [ih.2.2.2]; omega)
      exact ⟨this.1, ih.2.tr this.2⟩
    · exact ih
theorem wi_seaM {w : Mm} (h : WI w) (L : Nat → (Nat → Int32) → Int32) (s : Int32) : WI (seaM L s w) ∧ sameC w (seaM L s w) := by
  have a := wi_seaA h L s (nD w)
  have b := wi_seaB a.1 (nD w)
  exact ⟨b.1, a.2.tr b.2⟩
theorem min_time {T : Nat} (h : T ≤ 9999) : isN (if nI T + 1 < 9999 then nI T + 1 else 9999) 9999 := by
  rw [nI_1]
  by_cases c : nI (T + 1) < 9999
  · rw [if_pos c]
    exact isN.mk (by have := (nI_ltI (a := T + 1) (b := 9999) (by omega) (by decide)).mp c; omega)
  · rw [if_neg c]
    exact ⟨9999, by decide, rfl⟩
theorem wi_seaW {w : Mm} (h : WI w) (L : Nat → (Nat → Int32) → Int32) (s : Int32) : WI (seaW L s w) ∧ sameC w (seaW L s w) := by
  have a := wi_seaM h L s
  have b := wi_seaC a.1 (n := nD w) (by rw [a.2.2.2]; exact Nat.le_refl _)
  unfold seaW
  refine ⟨b.1.mup (by decide) (by decide) ?_, (a.2.tr b.2).tr (sameC_mup (by first | decide | exact hr0 (by decide)))⟩
  obtain ⟨T, h1, h2⟩ := b.1.T
  show isN _ 9999
  rw [h2]
  exact min_time h1
theorem X1_aSeason_s {Λ : Nat → Nat → (Nat → Int32) → Int32} {σ : Cs} {k : Nat} (s : Int32) (h : WI (cw σ k)) (hΛ : LamOK Λ (cl σ k)) : ∃ f, X1_aSeason Λ σ k s = some (seaN (lawF Λ (cl σ k)) s (cw σ k), cwu (sc3 σ f) k (seaW (lawF Λ (cl σ k)) s (cw σ k))) := by
  generalize eL : lawF Λ (cl σ k) = L
  generalize ew : cw σ k = w at h ⊢
  have hD := h.D
  have r1 : Rn (loopO (X1_aSeason_L5 Λ k s) FU (σ, (0 : Int32))) (fun σ' => ∃ f, σ' = cwu (sc3 σ f) k (seaA L s (nD w) w)) := by
    refine loopO_inv (fun i x => (∃ f, x.1 = cwu (sc3 σ f) k (seaA L s i w)) ∧ x.2 = nI i ∧ i ≤ nD w) _ (nD w) (FU8 hD.2) (fun i x hi hx => ?_) ⟨⟨co σ 3, by rw [sc3_self]; show σ = cwu σ k w; rw [← ew, cwu_self]⟩, rfl, Nat.zero_le _⟩
    obtain ⟨⟨f, e1⟩, e2, -⟩ := hx
    obtain ⟨x1, x2⟩ := x
    simp only at e1 e2
    subst e1
    subst e2
    have hw := wi_seaA h L s i
    unfold X1_aSeason_L5
    simp only [cw_cwu]
    have e3 : seaA L s i w 0 3 = nI (nD w) := by rw [hw.1.D.1, hw.2.2.2]
    rw [e3]
    rcases Nat.lt_or_ge i (nD w) with hlt | hge
    · rw [if_neg (nI_ge hlt (by omega)), ldN (by omega) (by decide)]
      simp only [obs]
      by_cases c : seaA L s i w 26 i = 0
      · rw [if_pos c]
        obtain ⟨g, e4⟩ := X1_ripens_s (σ := cwu (sc3 σ f) k (seaA L s i w)) (k := k) (d := i) s (by rw [cw_cwu]; exact hw.1) (by rw [cw_cwu, hw.2.2.2]; exact hlt) hΛ
        rw [e4]
        simp only [obs]
        refine Rn.mk (Or.inl ⟨_, rfl, hlt, ⟨⟨g, ?_⟩, nI_1 i, by omega⟩⟩)
        show cwu (sc3 (cwu (sc3 σ f) k (seaA L s i w)) g) k _ = _
        rw [sc3_cwu, cwu_cwu, sc3_sc3, cw_cwu, cl_cwu, cl_sc3, eL]
        congr 1
        show _ = if seaA L s i w 26 i = 0 then _ else _
        rw [if_pos c]
      · rw [if_neg c]
        refine Rn.mk (Or.inl ⟨_, rfl, hlt, ⟨⟨f, ?_⟩, nI_1 i, by omega⟩⟩)
        show cwu (sc3 σ f) k (seaA L s i w) = cwu (sc3 σ f) k (if seaA L s i w 26 i = 0 then _ else seaA L s i w)
        rw [if_neg c]
    · have : i = nD w := by omega
      subst this
      rw [if_pos (nI_le (Nat.le_refl _) (by omega))]
      exact Rn.mk (Or.inr ⟨_, rfl, f, rfl⟩)
  obtain ⟨σ1, q1, f, rfl⟩ := r1
  have hA := wi_seaA h L s (nD w)
  have r2 : Rn (loopO (X1_aSeason_L41 Λ k) FU (cwu (sc3 σ f) k (seaA L s (nD w) w), (0 : Int32))) (fun σ' => σ' = cwu (sc3 σ f) k (seaB (nD w) (seaA L s (nD w) w))) := by
    refine loopO_inv (fun i x => x.1 = cwu (sc3 σ f) k (seaB i (seaA L s (nD w) w)) ∧ x.2 = nI i ∧ i ≤ nD w) _ (nD w) (FU8 hD.2) (fun i x hi hx => ?_) ⟨rfl, rfl, Nat.zero_le _⟩
    obtain ⟨e1, e2, -⟩ := hx
    obtain ⟨x1, x2⟩ := x
    simp only at e1 e2
    subst e1
    subst e2
    have hw := wi_seaB hA.1 i
    have hs := hA.2.tr hw.2
    unfold X1_aSeason_L41
    simp only [cw_cwu]
    have e3 : seaB i (seaA L s (nD w) w) 0 3 = nI (nD w) := by rw [hw.1.D.1, hs.2.2]
    rw [e3]
    rcases Nat.lt_or_ge i (nD w) with hlt | hge
    · obtain ⟨kk, h1, h2⟩ := hw.1.ink (d := i) (by rw [hs.2.2]; exact hlt)
      have := hw.1.K.2
      rw [if_neg (nI_ge hlt (by omega)), X2_fades_s (by omega) ⟨kk, by omega, h2⟩]
      simp only [obs, cwu_cwu]
      exact Rn.mk (Or.inl ⟨_, rfl, hlt, rfl, nI_1 i, by omega⟩)
    · have : i = nD w := by omega
      subst this
      rw [if_pos (nI_le (Nat.le_refl _) (by omega))]
      exact Rn.mk (Or.inr ⟨_, rfl, rfl⟩)
  obtain ⟨σ2, q2, rfl⟩ := r2
  have hM := wi_seaM h L s
  have r3 : Rn (loopO (X1_aSeason_L65 Λ k) FU (cwu (sc3 σ f) k (seaM L s w), (0 : Int32), (0 : Int32))) (fun x => x = (cwu (sc3 σ f) k (seaC (nD w) (seaM L s w)), seaK (nD w) (seaM L s w))) := by
    refine loopO_inv (fun i x => x = (cwu (sc3 σ f) k (seaC i (seaM L s w)), seaK i (seaM L s w), nI i) ∧ i ≤ nD w) _ (nD w) (FU8 hD.2) (fun i x hi hx => ?_) ⟨rfl, Nat.zero_le _⟩
    obtain ⟨rfl, -⟩ := hx
    have hw := wi_seaC hM.1 (n := i) (by rw [hM.2.2.2]; exact hi)
    have hs := hM.2.tr hw.2
    unfold X1_aSeason_L65
    simp only [cw_cwu]
    have e3 : seaC i (seaM L s w) 0 3 = nI (nD w) := by rw [hw.1.D.1, hs.2.2]
    rw [e3]
    rcases Nat.lt_or_ge i (nD w) with hlt | hge
    · rw [if_neg (nI_ge hlt (by omega)), X2_pays_s hw.1 (by rw [hs.2.2]; exact hlt)]
      simp only [obs, cwu_cwu, b01_0]
      have e5 : seaC (i + 1) (seaM L s w) = if payC (seaC i (seaM L s w)) i = true then payW (seaC i (seaM L s w)) i else seaC i (seaM L s w) := rfl
      have e6 : seaK (i + 1) (seaM L s w) = seaK i (seaM L s w) + b01 (payC (seaC i (seaM L s w)) i) := rfl
      by_cases c : payC (seaC i (seaM L s w)) i = true
      · rw [if_neg (by rw [c]; decide)]
        refine Rn.mk (Or.inl ⟨_, rfl, hlt, ?_, by omega⟩)
        rw [e5, e6, c, nI_1]
        rfl
      · rw [if_pos (by simpa using c)]
        refine Rn.mk (Or.inl ⟨_, rfl, hlt, ?_, by omega⟩)
        rw [e5, e6, if_neg c, nI_1, show payC (seaC i (seaM L s w)) i = false from by simpa using c]
        rfl
    · have : i = nD w := by omega
      subst this
      rw [if_pos (nI_le (Nat.le_refl _) (by omega))]
      exact Rn.mk (Or.inr ⟨_, rfl, rfl⟩)
  obtain ⟨x3, q3, rfl⟩ := r3
  refine ⟨f, ?_⟩
  unfold X1_aSeason
  rw [q1]
  simp only [obs]
  rw [q2]
  simp only [obs]
  rw [show seaB (nD w) (seaA L s (nD w) w) = seaM L s w from rfl, q3]
  simp only [obs, cw_cwu, cwu_cwu]
  rfl
