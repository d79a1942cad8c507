/-! PURE: THE REFERENCE, its row read as a world -/
def scr (j : Nat) : Bool := j == 9 || j == 10 || j == 11 || j == 13 || j == 15 || j == 16 || j == 17 || j == 18
/-- what the law asks of a row: how many lines, the text's size, the text -/
def lawP (i : Nat) : Prop := i = 1 ∨ i = 2 ∨ 381 ≤ i
def z01 (x : Int32) : Prop := x = 0 ∨ x = 1
theorem zb01 (b : Bool) : z01 (b01 b) := by cases b <;> first | exact Or.inl rfl | exact Or.inr rfl
/-- the row shows the world w' now; all else but scratch stays -/
def Tr (τ τ' : Mm) (w' : Mm) : Prop := WR w' (τ' 0) ∧ (∀ i, lawP i → τ' 0 i = τ 0 i) ∧ (∀ r, r ≠ 0 → r ≠ 5 → r ≠ 10 → τ' r = τ r) ∧ (∀ j, scr j = false → τ' 10 j = τ 10 j) ∧ ∀ j, j = 15 ∨ j = 16 → z01 (τ 10 j) → z01 (τ' 10 j)
theorem Tr.rf {τ w : Mm} (h : WR w (τ 0)) : Tr τ τ w := ⟨h, fun _ _ => rfl, fun _ _ _ _ => rfl, fun _ _ => rfl, fun _ _ z => z⟩
theorem Tr.tr {a b c w v : Mm} (h : Tr a b w) (k : Tr b c v) : Tr a c v := ⟨k.1, fun i hi => (k.2.1 i hi).trans (h.2.1 i hi), fun r h1 h2 h3 => (k.2.2.1 r h1 h2 h3).trans (h.2.2.1 r h1 h2 h3), fun j hj => (k.2.2.2.1 j hj).trans (h.2.2.2.1 j hj), fun j hj z => k.2.2.2.2 j hj (h.2.2.2.2 j hj z)⟩
theorem Tr.put {τ w : Mm} (h : WR w (τ 0)) {r j : Nat} (hj : j < wSz r) (x : Int32) : Tr τ (mup τ 0 (wX r j) x) (mup w r j x) := by
  refine ⟨by rw [mup_e]; exact h.put hj x, fun i hi => ?_, fun q h1 _ _ => mup_r h1, fun j _ => by rw [mup_r (by decide)], fun j _ z => by rw [mup_r (by decide)]; exact z⟩
  have h1 := wX_lt hj
  have h2 := wX_12 hj
  rw [mup_j (by unfold lawP at hi; omega)]
/-- scratch of region 10, the facts -/
theorem Tr.scr {τ w : Mm} (h : WR w (τ 0)) {j : Nat} (hj : scr j = true) (x : Int32) (hn : j ≠ 15 ∧ j ≠ 16 := by decide) : Tr τ (mup τ 10 j x) w := by
  refine ⟨by rw [mup_r (by decide)]; exact h, fun i _ => by rw [mup_r (by decide)], fun r _ _ h3 => mup_r h3, fun k hk => mup_j (fun e => ?_), fun k hk z => by rw [mup_j (by omega)]; exact z⟩
  rw [e, hj] at hk
  cases hk
theorem Tr.fact {τ w : Mm} (h : WR w (τ 0)) (j : Nat) (x : Int32) : Tr τ (mup τ 5 j x) w :=
  ⟨by rw [mup_r (by decide)]; exact h, fun i _ => by rw [mup_r (by decide)], fun r _ h2 _ => mup_r h2, fun k _ => by rw [mup_r (by decide)], fun k _ z => by rw [mup_r (by decide)]; exact z⟩
theorem lit (n : Nat) : (OfNat.ofNat n : Int32) = nI n := rfl
theorem ix_of {d k : Nat} : ((45 : Int32) + (12 : Int32) * nI d) + nI k = nI (45 + 12 * d + k) := by
  rw [show (12 : Int32) = nI 12 from rfl, pk_mul, show (45 : Int32) = nI 45 from rfl, nI_add, nI_add]
theorem ix_ink {i k : Nat} : ((27 : Int32) + (3 : Int32) * nI i) + nI k = nI (27 + 3 * i + k) := by
  rw [show (3 : Int32) = nI 3 from rfl, pk_mul, show (27 : Int32) = nI 27 from rfl, nI_add, nI_add]
theorem ix_coin {p : Nat} : (15 : Int32) + (2 : Int32) * nI p = nI (15 + 2 * p) := by
  rw [show (2 : Int32) = nI 2 from rfl, pk_mul, show (15 : Int32) = nI 15 from rfl, nI_add]
theorem T_of {τ w : Mm} (h : WR w (τ 0)) {r d : Nat} (hr : 15 ≤ r) (hr2 : r < 27) (hd : d < 8) {k : Nat} (hk : wX r d = 45 + 12 * d + k) : X7_of τ (nI d) (nI k) = some (w r d) := by
  have hs : d < wSz r := by unfold wSz; rw [if_neg (by omega), if_neg (by omega), if_neg (by omega), if_neg (by omega), if_pos (by omega)]; exact hd
  have hl := wX_lt hs
  unfold X7_of
  rw [ix_of, ← hk, ldN (by omega) (by decide), h r d hs]
  rfl
theorem T_lays {τ : Mm} {r d : Nat} (hr : 15 ≤ r) (hr2 : r < 27) (hd : d < 8) {k : Nat} (hk : wX r d = 45 + 12 * d + k) (x : Int32) : X7_lays τ (nI d) (nI k) x = some (mup τ 0 (wX r d) x) := by
  have hs : d < wSz r := by unfold wSz; rw [if_neg (by omega), if_neg (by omega), if_neg (by omega), if_neg (by omega), if_pos (by omega)]; exact hd
  have hl := wX_lt hs
  unfold X7_lays
  rw [ix_of, ← hk, stoN (by omega) (by decide)]
  rfl
theorem wS8 {r d : Nat} (hr : 15 ≤ r) (hr2 : r < 27) (hd : d < 8) : d < wSz r := by
  unfold wSz; rw [if_neg (by omega), if_neg (by omega), if_neg (by omega), if_neg (by omega), if_pos (by omega)]; exact hd
theorem wX16 {r d : Nat} (hr : 16 ≤ r) (hr2 : r < 27) : wX r d = 45 + 12 * d + (r - 16) := by
  unfold wX; rw [if_neg (by omega), if_neg (by omega), if_neg (by omega), if_neg (by omega), if_neg (by omega), if_neg (by omega), if_pos (by omega)]
theorem wX15 {d : Nat} : wX 15 d = 45 + 12 * d + 11 := by
  show 56 + 12 * d = _; omega
theorem T_of0 {τ w : Mm} (h : WR w (τ 0)) {d : Nat} (hd : d < 8) : X7_of τ (nI d) (0 : Int32) = some (w 16 d) := T_of h (r := 16) (k := 0) (by decide) (by decide) hd (wX16 (by decide) (by decide))
theorem T_lays0 {τ : Mm} {d : Nat} (hd : d < 8) (x : Int32) : X7_lays τ (nI d) (0 : Int32) x = some (mup τ 0 (wX 16 d) x) := T_lays (r := 16) (k := 0) (by decide) (by decide) hd (wX16 (by decide) (by decide)) x
theorem T_of1 {τ w : Mm} (h : WR w (τ 0)) {d : Nat} (hd : d < 8) : X7_of τ (nI d) (1 : Int32) = some (w 17 d) := T_of h (r := 17) (k := 1) (by decide) (by decide) hd (wX16 (by decide) (by decide))
theorem T_lays1 {τ : Mm} {d : Nat} (hd : d < 8) (x : Int32) : X7_lays τ (nI d) (1 : Int32) x = some (mup τ 0 (wX 17 d) x) := T_lays (r := 17) (k := 1) (by decide) (by decide) hd (wX16 (by decide) (by decide)) x
theorem T_of2 {τ w : Mm} (h : WR w (τ 0)) {d : Nat} (hd : d < 8) : X7_of τ (nI d) (2 : Int32) = some (w 18 d) := T_of h (r := 18) (k := 2) (by decide) (by decide) hd (wX16 (by decide) (by decide))
theorem T_lays2 {τ : Mm} {d : Nat} (hd : d < 8) (x : Int32) : X7_lays τ (nI d) (2 : Int32) x = some (mup τ 0 (wX 18 d) x) := T_lays (r := 18) (k := 2) (by decide) (by decide) hd (wX16 (by decide) (by decide)) x
theorem T_of3 {τ w : Mm} (h : WR w (τ 0)) {d : Nat} (hd : d < 8) : X7_of τ (nI d) (3 : Int32) = some (w 19 d) := T_of h (r := 19) (k := 3) (by decide) (by decide) hd (wX16 (by decide) (by decide))
theorem T_lays3 {τ : Mm} {d : Nat} (hd : d < 8) (x : Int32) : X7_lays τ (nI d) (3 : Int32) x = some (mup τ 0 (wX 19 d) x) := T_lays (r := 19) (k := 3) (by decide) (by decide) hd (wX16 (by decide) (by decide)) x
theorem T_of4 {τ w : Mm} (h : WR w (τ 0)) {d : Nat} (hd : d < 8) : X7_of τ (nI d) (4 : Int32) = some (w 20 d) := T_of h (r := 20) (k := 4) (by decide) (by decide) hd (wX16 (by decide) (by decide))
theorem T_lays4 {τ : Mm} {d : Nat} (hd : d < 8) (x : Int32) : X7_lays τ (nI d) (4 : Int32) x = some (mup τ 0 (wX 20 d) x) := T_lays (r := 20) (k := 4) (by decide) (by decide) hd (wX16 (by decide) (by decide)) x
theorem T_of5 {τ w : Mm} (h : WR w (τ 0)) {d : Nat} (hd : d < 8) : X7_of τ (nI d) (5 : Int32) = some (w 21 d) := T_of h (r := 21) (k := 5) (by decide) (by decide) hd (wX16 (by decide) (by decide))
theorem T_lays5 {τ : Mm} {d : Nat} (hd : d < 8) (x : Int32) : X7_lays τ (nI d) (5 : Int32) x = some (mup τ 0 (wX 21 d) x) := T_lays (r := 21) (k := 5) (by decide) (by decide) hd (wX16 (by decide) (by decide)) x
theorem T_of6 {τ w : Mm} (h : WR w (τ 0)) {d : Nat} (hd : d < 8) : X7_of τ (nI d) (6 : Int32) = some (w 22 d) := T_of h (r := 22) (k := 6) (by decide) (by decide) hd (wX16 (by decide) (by decide))
theorem T_lays6 {τ : Mm} {d : Nat} (hd : d < 8) (x : Int32) : X7_lays τ (nI d) (6 : Int32) x = some (mup τ 0 (wX 22 d) x) := T_lays (r := 22) (k := 6) (by decide) (by decide) hd (wX16 (by decide) (by decide)) x
theorem T_of7 {τ w : Mm} (h : WR w (τ 0)) {d : Nat} (hd : d < 8) : X7_of τ (nI d) (7 : Int32) = some (w 23 d) := T_of h (r := 23) (k := 7) (by decide) (by decide) hd (wX16 (by decide) (by decide))
theorem T_lays7 {τ : Mm} {d : Nat} (hd : d < 8) (x : Int32) : X7_lays τ (nI d) (7 : Int32) x = some (mup τ 0 (wX 23 d) x) := T_lays (r := 23) (k := 7) (by decide) (by decide) hd (wX16 (by decide) (by decide)) x
theorem T_of8 {τ w : Mm} (h : WR w (τ 0)) {d : Nat} (hd : d < 8) : X7_of τ (nI d) (8 : Int32) = some (w 24 d) := T_of h (r := 24) (k := 8) (by decide) (by decide) hd (wX16 (by decide) (by decide))
theorem T_lays8 {τ : Mm} {d : Nat} (hd : d < 8) (x : Int32) : X7_lays τ (nI d) (8 : Int32) x = some (mup τ 0 (wX 24 d) x) := T_lays (r := 24) (k := 8) (by decide) (by decide) hd (wX16 (by decide) (by decide)) x
theorem T_of9 {τ w : Mm} (h : WR w (τ 0)) {d : Nat} (hd : d < 8) : X7_of τ (nI d) (9 : Int32) = some (w 25 d) := T_of h (r := 25) (k := 9) (by decide) (by decide) hd (wX16 (by decide) (by decide))
theorem T_lays9 {τ : Mm} {d : Nat} (hd : d < 8) (x : Int32) : X7_lays τ (nI d) (9 : Int32) x = some (mup τ 0 (wX 25 d) x) := T_lays (r := 25) (k := 9) (by decide) (by decide) hd (wX16 (by decide) (by decide)) x
theorem T_of10 {τ w : Mm} (h : WR w (τ 0)) {d : Nat} (hd : d < 8) : X7_of τ (nI d) (10 : Int32) = some (w 26 d) := T_of h (r := 26) (k := 10) (by decide) (by decide) hd (wX16 (by decide) (by decide))
theorem T_lays10 {τ : Mm} {d : Nat} (hd : d < 8) (x : Int32) : X7_lays τ (nI d) (10 : Int32) x = some (mup τ 0 (wX 26 d) x) := T_lays (r := 26) (k := 10) (by decide) (by decide) hd (wX16 (by decide) (by decide)) x
theorem T_of11 {τ w : Mm} (h : WR w (τ 0)) {d : Nat} (hd : d < 8) : X7_of τ (nI d) (11 : Int32) = some (w 15 d) := T_of h (r := 15) (k := 11) (by decide) (by decide) hd wX15
theorem T_lays11 {τ : Mm} {d : Nat} (hd : d < 8) (x : Int32) : X7_lays τ (nI d) (11 : Int32) x = some (mup τ 0 (wX 15 d) x) := T_lays (r := 15) (k := 11) (by decide) (by decide) hd wX15 x
theorem T_ink0 {τ w : Mm} (h : WR w (τ 0)) {i : Nat} (hi : i < 6) : X7_ofInk τ (nI i) (0 : Int32) = some (w 11 i) := by
  unfold X7_ofInk
  rw [show (0 : Int32) = nI 0 from rfl, ix_ink, ldN (by omega) (by decide), h 11 i hi]
  rfl
theorem T_ink1 {τ w : Mm} (h : WR w (τ 0)) {i : Nat} (hi : i < 6) : X7_ofInk τ (nI i) (1 : Int32) = some (w 12 i) := by
  unfold X7_ofInk
  rw [show (1 : Int32) = nI 1 from rfl, ix_ink, ldN (by omega) (by decide), h 12 i hi]
  rfl
theorem T_ink2 {τ w : Mm} (h : WR w (τ 0)) {i : Nat} (hi : i < 6) : X7_ofInk τ (nI i) (2 : Int32) = some (w 13 i) := by
  unfold X7_ofInk
  rw [show (2 : Int32) = nI 2 from rfl, ix_ink, ldN (by omega) (by decide), h 13 i hi]
  rfl
theorem T_coin {τ w : Mm} (h : WR w (τ 0)) {p : Nat} (hp : p < 6) : X7_coins τ (nI p) = some (w 10 p) := by
  unfold X7_coins
  rw [ix_coin, ldN (by omega) (by decide), h 10 p hp]
  rfl
theorem isOf_s (a b : Int32) : X7_isOf a b = some (b01 (hasB a b)) := has_s a b
theorem isIn_s (a l h : Int32) : X7_isIn a l h = some (b01 (inB a l h)) := in_s a l h
theorem lesser_s (a b : Int32) : X7_lesser a b = some (if b < a then b else a) := by
  unfold X7_lesser
  by_cases h : b < a
  · rw [if_pos (Int32.le_of_lt h), if_pos h]
  · rw [if_neg h]
    by_cases h2 : b ≤ a
    · rw [if_pos h2, Int32.le_antisymm h2 (Int32.not_lt.mp h)]
    · rw [if_neg h2]
theorem greater_s (a b : Int32) : X7_greater a b = some (if a < b then b else a) := by
  unfold X7_greater
  by_cases h : a < b
  · rw [if_pos (Int32.le_of_lt h), if_pos h]
  · rw [if_neg h]
    by_cases h2 : a ≤ b
    · rw [if_pos h2, Int32.le_antisymm h2 (Int32.not_lt.mp h)]
    · rw [if_neg h2]
section TW
variable {τ w : Mm}
theorem T_inState (h : WR w (τ 0)) (hw : WI w) (s : Int32) : X7_inState τ s = some (stB w s) := by
  unfold X7_inState
  obtain ⟨e, hD⟩ := hw.D
  have e2 : τ 0 5 = nI (nD w) := (h 0 3 (by decide)).symm.trans e
  refine ob1 (loop_bits (fun d => decide (w 26 d = s)) (nD w) (FU8 hD) (fun i acc hi => ?_) (fun acc => ?_)) rfl
  · unfold X7_inState_L4
    rw [if_neg (by rw [e2]; exact nI_ge hi (by omega)), T_of10 h (by omega)]
    by_cases c : w 26 i = s <;> simp [c, nI_1]
  · unfold X7_inState_L4
    rw [if_pos (by rw [e2]; exact nI_le (Nat.le_refl _) (by omega))]
theorem T_isValid (h : WR w (τ 0)) {d : Nat} (hd : d < 8) (reads : Int32) : X7_isValid τ (nI d) reads = some (b01 (valB w d reads)) := by
  unfold X7_isValid X7_isValid_J33 X7_isValid_J38
  simp only [isOf_s, T_of5 h hd, T_of6 h hd, obs, b01_0, valB]
  generalize hasB reads (nI d) = A
  generalize hasB reads (w 21 d) = B
  generalize hasB reads (w 22 d) = C
  generalize w 21 d = x
  generalize w 22 d = y
  by_cases c1 : x = -1 <;> by_cases c2 : y = -1 <;> cases A <;> cases B <;> cases C <;> simp [c1, c2, b01]
theorem T_isValidNow (h : WR w (τ 0)) (hw : WI w) {d : Nat} (hd : d < 8) : X7_isValidNow τ (nI d) = some (b01 (valB w d (stB w 1))) := by
  unfold X7_isValidNow
  rw [T_inState h hw]
  simp only [obs]
  rw [T_isValid h hd]
  simp only [obs, zb_b01]
theorem T_brokenOnes (h : WR w (τ 0)) (hw : WI w) : X7_brokenOnes τ = some (brB w) := by
  unfold X7_brokenOnes
  obtain ⟨e, hP⟩ := hw.P
  have e2 : τ 0 3 = nI (nP w) := (h 0 1 (by decide)).symm.trans e
  refine ob1 (loop_bits (fun d => decide (¬ w 14 d = 0)) (nP w) (FU8 (by omega)) (fun i acc hi => ?_) (fun acc => ?_)) rfl
  · unfold X7_brokenOnes_L4
    have e0 : (0 : Int32) <<< (nI i &&& 31) = 0 := (by decide +kernel : ∀ i, i < 6 → (0 : Int32) <<< (nI i &&& 31) = 0) i (by omega)
    have eI : ((15 : Int32) + (2 : Int32) * nI i) + 1 = nI (16 + 2 * i) := by
      rw [ix_coin, nI_1]
      congr 1
      omega
    rw [if_neg (by rw [e2]; exact nI_ge hi (by omega)), eI, ldN (by omega) (by decide), show τ 0 (16 + 2 * i) = w 14 i from (h 14 i (by show i < 6; omega)).symm]
    rcases hw.broke (show i < 6 by omega) with c | c
    · simp [c, e0, nI_1]
    · simp [c, nI_1]
  · unfold X7_brokenOnes_L4
    rw [if_pos (by rw [e2]; exact nI_le (Nat.le_refl _) (by omega))]
theorem T_paidOnes (h : WR w (τ 0)) (hw : WI w) : X7_paidOnes τ = some (paB w) := by
  unfold X7_paidOnes
  obtain ⟨e, hD⟩ := hw.D
  have e2 : τ 0 5 = nI (nD w) := (h 0 3 (by decide)).symm.trans e
  refine ob1 (loop_bits (fun d => decide (¬ w 15 d = 0)) (nD w) (FU8 hD) (fun i acc hi => ?_) (fun acc => ?_)) rfl
  · unfold X7_paidOnes_L4
    rw [if_neg (by rw [e2]; exact nI_ge hi (by omega)), T_of11 h (by omega)]
    have e0 : (0 : Int32) <<< (nI i &&& 31) = 0 := (by decide +kernel : ∀ i, i < 8 → (0 : Int32) <<< (nI i &&& 31) = 0) i (by omega)
    rcases hw.paid (show i < 8 by omega) with c | c
    · simp [c, e0, nI_1]
    · simp [c, nI_1]
  · unfold X7_paidOnes_L4
    rw [if_pos (by rw [e2]; exact nI_le (Nat.le_refl _) (by omega))]
/-- the log's shift, by a loop from behind -/
theorem T_logs (h : WR w (τ 0)) (a b c : Int32) : Rn (X7_logs τ a b c) (fun τ' => Tr τ τ' (tellW w a b c)) := by
  unfold X7_logs
  have r1 : Rn (loopO (X7_logs_L5 a b c) FU (τ, (239 : Int32))) (fun τ' => Tr τ τ' (mset w 27 (va_cpy (w 27) (w 27) 0 4 236))) := by
    refine loopO_inv (fun i x => Tr τ x.1 (mset w 27 (fun j => if 240 - i ≤ j ∧ j < 240 then w 27 (j - 4) else w 27 j)) ∧ x.2 = nI (239 - i)) _ 236 (by decide) (fun i x hi hx => ?_) ⟨?_, rfl⟩
    · obtain ⟨h1, h2⟩ := hx
      obtain ⟨x1, x2⟩ := x
      simp only at h1 h2
      subst h2
      unfold X7_logs_L5
      simp only []
      rcases Nat.lt_or_ge i 236 with hlt | hge
      · rw [if_neg (show ¬ nI (239 - i) < 4 from nI_nlt (b := 4) (by omega) (by omega)), show (141 : Int32) = nI 141 from rfl, nI_add, show (4 : Int32) = nI 4 from rfl, pk_sub (by omega), ldN (by omega) (by decide)]
        simp only [obs]
        rw [stoN (by omega) (by decide)]
        simp only [obs]
        have e0 : 239 - i = (239 - (i + 1)) + 1 := by omega
        refine Rn.mk (Or.inl ⟨_, rfl, hlt, ?_, by show nI (239 - i) + -1 = _; rw [e0, pk_m1]⟩)
        have hv := h1.1 27 (235 - i) (by show 235 - i < 240; omega)
        rw [mset_e, if_neg (by omega)] at hv
        have k := h1.tr (Tr.put h1.1 (r := 27) (j := 239 - i) (by show 239 - i < 240; omega) (x1 0 (141 + (239 - i) - 4)))
        have e1 : wX 27 (239 - i) = 141 + (239 - i) := rfl
        rw [e1] at k
        have e2 : mup (mset w 27 (fun j => if 240 - i ≤ j ∧ j < 240 then w 27 (j - 4) else w 27 j)) 27 (239 - i) (x1 0 (141 + (239 - i) - 4)) = mset w 27 (fun j => if 240 - (i + 1) ≤ j ∧ j < 240 then w 27 (j - 4) else w 27 j) := by
          rw [mup_mset]
          congr 1
          funext j
          unfold upd
          by_cases hj : j = 239 - i
          · rw [if_pos hj, if_pos (by omega), hj]
            rw [show 141 + (239 - i) - 4 = wX 27 (235 - i) from by show _ = 141 + (235 - i); omega, ← hv]
            congr 1
            omega
          · rw [if_neg hj]
            show (if 240 - i ≤ j ∧ j < 240 then w 27 (j - 4) else w 27 j) = _
            by_cases h3 : 240 - i ≤ j ∧ j < 240
            · rw [if_pos h3, if_pos (by omega)]
            · rw [if_neg h3, if_neg (by omega)]
        rw [e2] at k
        exact k
      · have : i = 236 := by omega
        subst this
        rw [if_pos (by decide)]
        refine Rn.mk (Or.inr ⟨_, rfl, ?_⟩)
        have e2 : (fun j => if 240 - 236 ≤ j ∧ j < 240 then w 27 (j - 4) else w 27 j) = va_cpy (w 27) (w 27) 0 4 236 := by
          funext j
          unfold va_cpy
          by_cases h3 : 4 ≤ j ∧ j < 240
          · rw [if_pos (by omega), if_pos (by omega), Nat.zero_add]
          · rw [if_neg (by omega), if_neg (by omega)]
        rw [← e2]
        exact h1
    · have e2 : (fun j => if 240 - 0 ≤ j ∧ j < 240 then w 27 (j - 4) else w 27 j) = w 27 := by
        funext j
        rw [if_neg (by omega)]
      rw [e2]
      have e3 : mset w 27 (w 27) = w := by
        funext r
        unfold mset
        by_cases hr : r = 27
        · rw [if_pos hr, hr]
        · rw [if_neg hr]
      rw [e3]
      exact Tr.rf h
  obtain ⟨τ1, q1, t1⟩ := r1
  rw [q1]
  simp only [obs]
  rw [show (141 : Int32) = nI 141 from rfl, stoN (by decide) (by decide)]
  simp only [obs]
  have t2 := t1.tr (Tr.put t1.1 (r := 27) (j := 0) (by decide) (τ1 0 6))
  rw [show wX 27 0 = 141 from rfl] at t2
  rw [show (142 : Int32) = nI 142 from rfl, stoN (by decide) (by decide)]
  simp only [obs]
  have t3 := t2.tr (Tr.put t2.1 (r := 27) (j := 1) (by decide) a)
  rw [show wX 27 1 = 142 from rfl] at t3
  rw [show (143 : Int32) = nI 143 from rfl, stoN (by decide) (by decide)]
  simp only [obs]
  have t4 := t3.tr (Tr.put t3.1 (r := 27) (j := 2) (by decide) b)
  rw [show wX 27 2 = 143 from rfl] at t4
  rw [show (144 : Int32) = nI 144 from rfl, stoN (by decide) (by decide)]
  simp only [obs]
  have t5 := t4.tr (Tr.put t4.1 (r := 27) (j := 3) (by decide) c)
  rw [show wX 27 3 = 144 from rfl] at t5
  rw [lesser_s]
  simp only [obs]
  rw [show (9 : Int32) = nI 9 from rfl, stoN (by decide) (by decide)]
  simp only [obs]
  have e6 : τ1 0 6 = w 0 4 := by
    have := t1.1 0 4 (by decide)
    rw [mset_r (by decide)] at this
    exact this.symm
  generalize eq5 : mup (mup (mup (mup τ1 0 141 (τ1 0 6)) 0 142 a) 0 143 b) 0 144 c = τ5 at t5 ⊢
  have e9 : τ5 0 9 = w 0 7 := by
    have := t5.1 0 7 (by decide)
    rw [mup_mset, mup_mset, mup_mset, mup_mset, mset_r (by decide)] at this
    exact this.symm
  have t6 := t5.tr (Tr.put t5.1 (r := 0) (j := 7) (by decide) (if τ5 0 9 + 1 < 60 then τ5 0 9 + 1 else 60))
  rw [show wX 0 7 = 9 from rfl] at t6
  refine Rn.mk ?_
  rw [mup_mset, mup_mset, mup_mset, mup_mset, e6, e9] at t6
  rw [e9]
  exact t6
theorem T_comesUp (h : WR w (τ 0)) {d : Nat} (hd : d < 8) : Rn (X7_comesUp τ (nI d)) (fun τ' => Tr τ τ' (upW w d)) := by
  unfold X7_comesUp
  rw [T_lays10 hd]
  simp only [obs]
  have t1 := Tr.put h (r := 26) (j := d) hd 1
  rw [T_lays9 hd]
  simp only [obs]
  have e6 : mup τ 0 (wX 26 d) 1 0 6 = w 0 4 := by
    have := t1.1 0 4 (by decide)
    rw [mup_r (by decide)] at this
    exact this.symm
  have t2 := t1.tr (Tr.put t1.1 (r := 25) (j := d) hd (mup τ 0 (wX 26 d) 1 0 6))
  obtain ⟨τ', q, t3⟩ := T_logs t2.1 (nI d) 0 0
  rw [show (0 : Int32) = (0 : Int32) from rfl, q]
  refine Rn.mk ?_
  rw [e6] at t3 t2
  exact t2.tr t3
end TW
