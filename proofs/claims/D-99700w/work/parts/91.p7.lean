/-! PURE, TEXTS: the reference's reader: at p, dd deep, fault f -/
def td (τ : Mm) (p : Nat) (dd f : Int32) : Mm := fun r j => if r = 10 then (if j = 11 then nI p else if j = 12 then f else if j = 13 then dd else τ 10 j) else τ r j
section TDS
variable {τ : Mm} {p q : Nat} {dd f x : Int32}
theorem td_11 : td τ p dd f 10 11 = nI p := by
  unfold td
  rw [if_pos rfl, if_pos rfl]
theorem td_12 : td τ p dd f 10 12 = f := by
  unfold td
  rw [if_pos rfl, if_neg (by decide), if_pos rfl]
theorem td_13 : td τ p dd f 10 13 = dd := by
  unfold td
  rw [if_pos rfl, if_neg (by decide), if_neg (by decide), if_pos rfl]
theorem td_j {j : Nat} (h : j ≠ 11 ∧ j ≠ 12 ∧ j ≠ 13) : td τ p dd f 10 j = τ 10 j := by
  show (if j = 11 then _ else if j = 12 then _ else if j = 13 then _ else τ 10 j) = _
  rw [if_neg h.1, if_neg h.2.1, if_neg h.2.2]
theorem td_r {r : Nat} (h : r ≠ 10) : td τ p dd f r = τ r := by
  funext j
  show (if r = 10 then _ else τ r j) = _
  rw [if_neg h]
theorem td_p {y : Int32} (hy : y = nI q) : mup (td τ p dd f) 10 11 y = td τ q dd f := by
  subst hy
  funext r j
  unfold mup upd td
  by_cases h : r = 10
  · by_cases h3 : j = 11 <;> simp [h, h3]
  · simp [h]
theorem td_f {y : Int32} : mup (td τ p dd f) 10 12 y = td τ p dd y := by
  funext r j
  unfold mup upd td
  by_cases h : r = 10
  · by_cases h3 : j = 12
    · subst h3; simp [h]
    · simp [h, h3]
  · simp [h]
theorem td_d {y : Int32} : mup (td τ p dd f) 10 13 y = td τ p y f := by
  funext r j
  unfold mup upd td
  by_cases h : r = 10
  · by_cases h3 : j = 13
    · subst h3; simp [h]
    · simp [h, h3]
  · simp [h]
theorem td_o {r j : Nat} {y : Int32} (h : r ≠ 10 ∨ j ≠ 11 ∧ j ≠ 12 ∧ j ≠ 13) : mup (td τ p dd f) r j y = td (mup τ r j y) p dd f := by
  funext a b
  unfold mup upd td
  by_cases ha : a = r
  · subst ha
    by_cases hb : b = j
    · subst hb
      by_cases h10 : a = 10
      · subst h10
        rcases h with h | h
        · exact absurd rfl h
        · simp [h.1, h.2.1, h.2.2]
      · simp [h10]
    · by_cases h10 : a = 10
      · subst h10
        simp [hb]
      · simp [h10, hb]
  · by_cases h10 : a = 10
    · subst h10
      simp [ha]
    · simp [ha, h10]
theorem td_self (h1 : τ 10 11 = nI p) : td τ p (τ 10 13) (τ 10 12) = τ := by
  funext r j
  unfold td
  by_cases h : r = 10
  · subst h
    by_cases h3 : j = 11
    · subst h3; simp [h1]
    · by_cases h4 : j = 12
      · subst h4; simp
      · by_cases h5 : j = 13
        · subst h5; simp
        · simp [h3, h4, h5]
  · simp [h]
end TDS
def TB (τ : Mm) (ch : Nat → Nat) (E : Nat) : Prop := τ 10 10 = nI E ∧ E ≤ 400 ∧ (∀ k, k < E → ch k < 256) ∧ ((τ 10 9 = -1 ∧ ∀ k, k < E → τ 4 k = nI (ch k)) ∨ (τ 10 9 = 381 ∧ ∀ k, k < E → τ 0 (381 + k) = nI (ch k)))
/-- the value of n figures -/
def dval (ch : Nat → Nat) (s : Nat) : Nat → Nat
  | 0 => 0
  | n + 1 => 10 * dval ch s n + (ch (s + n) - 48)
def numV (ch : Nat → Nat) (E p : Nat) : Nat := dval ch (skp ch E p) (dnd ch E p - skp ch E p)
/-- there is a number from lo to hi -/
def numOk (ch : Nat → Nat) (E p : Nat) (lo hi : Int32) : Bool := decide (skp ch E p < dnd ch E p ∧ dnd ch E p ≤ skp ch E p + 3) && inB (nI (numV ch E p)) lo hi
section TXT
variable {τ : Mm} {ch : Nat → Nat} {E p : Nat} {dd f : Int32}
theorem T_letter (h : TB τ ch E) {q : Nat} (hq : q < E) : X7_letter (td τ p dd f) (nI q) = some (nI (ch q)) := by
  have hE := h.2.1
  unfold X7_letter
  rw [td_j (by decide), td_r (by decide), td_r (by decide)]
  rcases h.2.2.2 with ⟨h1, h2⟩ | ⟨h1, h2⟩
  · rw [if_pos h1, ldN (by omega) (by decide), h2 q hq]
    rfl
  · rw [h1, if_neg (by decide), show (381 : Int32) = nI 381 from rfl, nI_add, ldN (by omega) (by decide), h2 q hq]
    rfl
theorem T_skip (h : TB τ ch E) (hp9 : p ≤ 1000 := by omega) : X7_skip (td τ p dd f) = some (td τ (skp ch E p) dd f) := by
  have hE := h.2.1
  by_cases hp : p ≤ E
  · have h1 := skp_ge (ch := ch) (E := E) p
    have h2 := skp_le (ch := ch) hp
    unfold X7_skip
    refine ob1 (loopO_run (fun i => td τ (p + i) dd f) (skp ch E p - p) (FU4 (by omega)) (fun i hi => ?_) ?_) rfl
    · obtain ⟨g1, g3⟩ := skp_in (ch := ch) (E := E) (p := p) (k := p + i) (by omega) (by omega)
      unfold X7_skip_L0
      rw [td_j (by decide), h.1, td_11, if_neg (nI_ge g1 (by omega)), T_letter h g1]
      simp only [obs]
      rw [if_pos (by rw [g3]; rfl), td_p (q := p + (i + 1)) (y := nI (p + i) + 1) (nI_1 (p + i))]
    · have g := skp_end (ch := ch) (E := E) p
      show X7_skip_L0 (td τ (p + (skp ch E p - p)) dd f) = _
      rw [show p + (skp ch E p - p) = skp ch E p by omega]
      unfold X7_skip_L0
      rw [td_j (by decide), h.1, td_11]
      by_cases c : skp ch E p < E
      · rw [if_neg (nI_ge c (by omega)), T_letter h c]
        simp only [obs]
        rw [if_neg]
        intro e
        have h9 := h.2.2.1 _ c
        exact g ⟨c, (nI_eq (by omega) (by decide)).mp (show nI (ch (skp ch E p)) = nI 32 from e)⟩
      · rw [if_pos (nI_le (by omega) (by omega))]
  · have e : skp ch E p = p := skp_far (by omega)
    rw [e]
    unfold X7_skip
    refine ob1 (loopO_run (fun _ => td τ p dd f) 0 (FU4 (by omega)) (fun i hi => by omega) ?_) rfl
    unfold X7_skip_L0
    rw [td_j (by decide), h.1, td_11]
    rw [if_pos (nI_le (by omega) (by omega))]
theorem T_isSign (h : TB τ ch E) (hp : p ≤ E) {c : Nat} (hc : c < 128) : X7_isSign (td τ p dd f) (nI c) = some (b01 (decide (skp ch E p < E ∧ ch (skp ch E p) = c)), td τ (skp ch E p) dd f) := by
  have hE := h.2.1
  have h0 := skp_le (ch := ch) hp
  unfold X7_isSign
  rw [T_skip h]
  simp only [obs]
  rw [td_j (by decide), h.1, td_11]
  by_cases k : skp ch E p < E
  · have h9 := h.2.2.1 _ k
    rw [if_neg (nI_ge k (by omega)), T_letter h k]
    simp only [obs]
    by_cases k2 : ch (skp ch E p) = c
    · rw [if_pos (by rw [k2]), decide_eq_true ⟨k, k2⟩]
      rfl
    · rw [if_neg (nI_ne (by omega) (by omega) k2), decide_eq_false (fun g => k2 g.2)]
      rfl
  · rw [if_pos (nI_le (by omega) (by omega)), decide_eq_false (fun g => k g.1)]
    rfl
theorem T_has (h : TB τ ch E) (hp : p ≤ E) (i : Nat) (hi : lenS.getD i 0 ≤ 40) : X7_has (td τ p dd f) i = some (b01 (wq ch E p i), td τ (if wq ch E p i = true then wnd ch E p else skp ch E p) dd f) := by
  have hE := h.2.1
  have h1 := wnd_ge (ch := ch) (E := E) p
  have h0 := skp_le (ch := ch) hp
  have h2 := wnd_le (ch := ch) hp
  unfold X7_has
  rw [T_skip h]
  simp only [obs, td_11]
  have key : loopO (X7_has_L9 (td τ (skp ch E p) dd f) i) FU (nI (skp ch E p)) = some (nI (wnd ch E p)) := by
    refine loopO_run (fun k => nI (skp ch E p + k)) (wnd ch E p - skp ch E p) (FU4 (by omega)) (fun k hk => ?_) ?_
    · obtain ⟨g1, g2⟩ := wnd_in (ch := ch) (E := E) (p := p) (k := skp ch E p + k) (by omega) (by omega)
      unfold X7_has_L9
      rw [td_j (by decide), h.1, if_neg (nI_ge g1 (by omega)), T_letter h g1]
      simp only [obs, isIn_s, (nB_all _ (h.2.2.1 _ g1)).1]
      rw [lt_bool g2, if_neg (by decide), nI_1]
      rfl
    · have g := wnd_end (ch := ch) (E := E) p
      show X7_has_L9 _ i (nI (skp ch E p + (wnd ch E p - skp ch E p))) = _
      rw [show skp ch E p + (wnd ch E p - skp ch E p) = wnd ch E p by omega]
      unfold X7_has_L9
      rw [td_j (by decide), h.1]
      by_cases c : wnd ch E p < E
      · rw [if_neg (nI_ge c (by omega)), T_letter h c]
        simp only [obs, isIn_s, (nB_all _ (h.2.2.1 _ c)).1]
        rw [lt_boolF (fun q => g ⟨c, q⟩)]
        rfl
      · rw [if_pos (nI_le (by omega) (by omega))]
  rw [key]
  simp only [obs]
  rw [pk_sub (by omega)]
  unfold sLen
  by_cases c : wnd ch E p - skp ch E p = lenS.getD i 0
  · rw [if_pos (by rw [c])]
    have r1 : Rn (loopO (X7_has_L55 (td τ (skp ch E p) dd f) i (nI (wnd ch E p))) FU 0) (fun e => (e = .inr () ∧ ∀ j, j < lenS.getD i 0 → nI (ch (skp ch E p + j)) = sBy i j) ∨ (e = .inl () ∧ ¬ ∀ j, j < lenS.getD i 0 → nI (ch (skp ch E p + j)) = sBy i j)) := by
      refine loopO_inv (fun k x => x = nI k ∧ ∀ j, j < k → nI (ch (skp ch E p + j)) = sBy i j) _ (lenS.getD i 0) (FU4 (by omega)) (fun k x hk hx => ?_) ⟨rfl, fun j hj => by omega⟩
      obtain ⟨rfl, hx⟩ := hx
      unfold X7_has_L55 sLen
      by_cases c2 : k < lenS.getD i 0
      · rw [if_neg (nI_ge c2 (by omega)), td_11, nI_add, T_letter h (by omega)]
        simp only [obs]
        unfold sCh
        rw [ldN c2 (by omega)]
        simp only [obs]
        by_cases c3 : nI (ch (skp ch E p + k)) = sBy i k
        · rw [if_pos c3, nI_1]
          refine Rn.mk (Or.inl ⟨_, rfl, c2, rfl, fun j hj => ?_⟩)
          by_cases e : j = k
          · rw [e]; exact c3
          · exact hx j (by omega)
        · rw [if_neg c3]
          exact Rn.mk (Or.inr ⟨_, rfl, Or.inr ⟨rfl, fun g => c3 (g k c2)⟩⟩)
      · have : k = lenS.getD i 0 := by omega
        subst this
        rw [if_pos (nI_le (Nat.le_refl _) (by omega))]
        exact Rn.mk (Or.inr ⟨_, rfl, Or.inl ⟨rfl, hx⟩⟩)
    obtain ⟨e, q, hc⟩ := r1
    rw [q]
    simp only [obs]
    rcases hc with ⟨rfl, hc⟩ | ⟨rfl, hc⟩
    · have : wq ch E p i = true := decide_eq_true ⟨c, hc⟩
      rw [this, if_pos rfl]
      show some ((1 : Int32), mup (td τ (skp ch E p) dd f) 10 11 (nI (wnd ch E p))) = _
      rw [td_p rfl]
      rfl
    · have : wq ch E p i = false := decide_eq_false (fun g => hc g.2)
      rw [this, if_neg (by decide)]
      rfl
  · rw [if_neg (nI_ne (by omega) (by omega) c)]
    have : wq ch E p i = false := decide_eq_false (fun g => c g.1)
    rw [this, if_neg (by decide)]
    rfl
theorem T_wrong1 {g : Nat} : X7_wrong (td τ p dd (-1)) (nI g) = some (td τ p dd (nI g)) := by
  unfold X7_wrong
  rw [td_12, if_pos rfl, td_f]
  rfl
theorem nI_nm1 {g : Nat} (hg : g < 2 ^ 31) : ¬ nI g = -1 := by
  intro e
  have := nI_pos hg
  rw [e] at this
  exact this (by decide)
theorem T_wrong2 {g : Nat} (hg : g < 2 ^ 31) (x : Int32) : X7_wrong (td τ p dd (nI g)) x = some (td τ p dd (nI g)) := by
  unfold X7_wrong
  rw [td_12, if_neg (nI_nm1 hg)]
theorem T_figF {g : Nat} (hg : g < 2 ^ 31) (lo hi : Int32) : X7_figures (td τ p dd (nI g)) lo hi = some (0, td τ p dd (nI g)) := by
  unfold X7_figures
  rw [td_12, if_neg (nI_nm1 hg)]
theorem dval_lt {s n : Nat} (h : ∀ j, j < n → ch (s + j) ≤ 57) : dval ch s n < 10 ^ n := by
  induction n with
  | zero => exact Nat.one_pos
  | succ n ih =>
    have h1 := ih (fun j hj => h j (by omega))
    have h2 := h n (by omega)
    show 10 * dval ch s n + (ch (s + n) - 48) < 10 ^ (n + 1)
    rw [Nat.pow_succ]
    omega
theorem dg_b {n : Nat} (hn : skp ch E p + n ≤ dnd ch E p) : ∀ j, j < n → skp ch E p + j < E ∧ 48 ≤ ch (skp ch E p + j) ∧ ch (skp ch E p + j) ≤ 57 := fun j hj => dnd_in (p := p) (by omega) (by omega)
/-- a step of the figures' value -/
theorem dstep {v c : Nat} (h1 : 48 ≤ c) (h2 : c ≤ 57) (hv : v < 2 ^ 20) : ((10 : Int32) * nI v + nI c) - 48 = nI (10 * v + (c - 48)) := by
  rw [show (10 : Int32) = nI 10 from rfl, pk_mul, nI_add, show (48 : Int32) = nI 48 from rfl, pk_sub (by omega)]
  congr 1
  omega
theorem numV_skp (p : Nat) : numV ch E (skp ch E p) = numV ch E p := by
  unfold numV
  rw [dnd_skp, skp_idem]
theorem numOk_skp (p : Nat) (lo hi : Int32) : numOk ch E (skp ch E p) lo hi = numOk ch E p lo hi := by
  unfold numOk
  rw [dnd_skp, skp_idem, numV_skp]
theorem T_figures (h : TB τ ch E) (hp : p ≤ E) (lo hi : Int32) : (numOk ch E p lo hi = true → X7_figures (td τ p dd (-1)) lo hi = some (nI (numV ch E p), td τ (dnd ch E p) dd (-1))) ∧ (numOk ch E p lo hi = false → ∃ (v : Int32) (q : Nat), q ≤ E ∧ X7_figures (td τ p dd (-1)) lo hi = some (v, td τ q dd (nI (skp ch E p)))) := by
  have hE := h.2.1
  have h1 := dnd_ge (ch := ch) (E := E) p
  have h0 := skp_le (ch := ch) hp
  have h2 := dnd_le (ch := ch) hp
  generalize hn : min 4 (dnd ch E p - skp ch E p) = n
  have key : loopO (X7_figures_L18 lo hi (nI (skp ch E p))) FU (td τ (skp ch E p) dd (-1), 0) = some (td τ (skp ch E p + n) dd (-1), nI (dval ch (skp ch E p) n)) := by
    refine loopO_run (fun i => (td τ (skp ch E p + i) dd (-1), nI (dval ch (skp ch E p) i))) n (FU4 (by omega)) (fun i hi => ?_) ?_
    · obtain ⟨g1, g2, g3⟩ := dg_b (ch := ch) (E := E) (p := p) (n := i + 1) (by omega) i (by omega)
      have hb := dval_lt (ch := ch) (s := skp ch E p) (n := i) (fun j hj => (dg_b (ch := ch) (E := E) (p := p) (n := i) (by omega) j hj).2.2)
      have hb2 : dval ch (skp ch E p) i < 2 ^ 20 := Nat.lt_of_lt_of_le hb (Nat.le_trans (Nat.pow_le_pow_right (by decide) (show i ≤ 4 by omega)) (by decide))
      unfold X7_figures_L18
      simp only [td_11]
      rw [td_j (by decide), h.1, if_neg (nI_ge g1 (by omega)), T_letter h g1]
      simp only [obs, isIn_s, (nB_all _ (h.2.2.1 _ g1)).2]
      rw [dg_bool ⟨g2, g3⟩, if_neg (by decide), pk_sub (by omega), if_neg (show ¬ (3 : Int32) < nI (skp ch E p + i - skp ch E p) from nI_nlt (a := 3) (by omega) (by omega))]
      rw [dstep g2 g3 hb2, td_p (q := skp ch E p + (i + 1)) (y := nI (skp ch E p + i) + 1) (nI_1 (skp ch E p + i))]
      rfl
    · unfold X7_figures_L18
      simp only [td_11]
      rw [td_j (by decide), h.1]
      by_cases c : skp ch E p + n < E
      · rw [if_neg (nI_ge c (by omega)), T_letter h c]
        simp only [obs, isIn_s, (nB_all _ (h.2.2.1 _ c)).2]
        by_cases c4 : 4 ≤ dnd ch E p - skp ch E p
        · have : n = 4 := by omega
          subst this
          cases e : (decide (48 ≤ ch (skp ch E p + 4)) && decide (ch (skp ch E p + 4) ≤ 57)) with
          | false => rw [if_pos (by decide)]
          | true => rw [if_neg (by decide), pk_sub (by omega), if_pos (show (3 : Int32) < nI (skp ch E p + 4 - skp ch E p) by rw [show skp ch E p + 4 - skp ch E p = 4 by omega]; decide)]
        · have e : skp ch E p + n = dnd ch E p := by omega
          rw [e]
          rw [dg_boolF (fun q => dnd_end (ch := ch) (E := E) p ⟨by rw [← e]; exact c, q⟩), if_pos (by decide)]
      · rw [if_pos (nI_le (by omega) (by omega))]
  have hb := dval_lt (ch := ch) (s := skp ch E p) (n := n) (fun j hj => (dg_b (ch := ch) (E := E) (p := p) (n := n) (by omega) j hj).2.2)
  have unf : X7_figures (td τ p dd (-1)) lo hi = if nI (skp ch E p + n) = nI (skp ch E p) then some (nI (dval ch (skp ch E p) n), td τ (skp ch E p + n) dd (nI (skp ch E p))) else if (3 : Int32) < nI (skp ch E p + n) - nI (skp ch E p) then some (nI (dval ch (skp ch E p) n), td τ (skp ch E p + n) dd (nI (skp ch E p))) else if nI (dval ch (skp ch E p) n) < lo then some (nI (dval ch (skp ch E p) n), td τ (skp ch E p + n) dd (nI (skp ch E p))) else if nI (dval ch (skp ch E p) n) ≤ hi then some (nI (dval ch (skp ch E p) n), td τ (skp ch E p + n) dd (-1)) else some (nI (dval ch (skp ch E p) n), td τ (skp ch E p + n) dd (nI (skp ch E p))) := by
    unfold X7_figures X7_here
    rw [td_12, if_pos rfl, T_skip h]
    simp only [obs, td_11]
    rw [key]
    simp only [obs, td_11, T_wrong1]
  rw [unf, pk_sub (by omega), show skp ch E p + n - skp ch E p = n by omega]
  unfold numOk numV
  constructor
  · intro g
    obtain ⟨g1, g2⟩ := (Bool.and_eq_true _ _).mp g
    have g1 := of_decide_eq_true g1
    have en : n = dnd ch E p - skp ch E p := by omega
    unfold inB at g2
    obtain ⟨g3, g4⟩ := (Bool.and_eq_true _ _).mp g2
    rw [← en] at g3 g4 ⊢
    have g3 : ¬ nI (dval ch (skp ch E p) n) < lo := by simpa using g3
    have g4 : ¬ hi < nI (dval ch (skp ch E p) n) := by simpa using g4
    rw [if_neg (nI_ne (by omega) (by omega) (by omega)), if_neg (show ¬ (3 : Int32) < nI n from nI_nlt (a := 3) (by omega) (by omega)), if_neg g3, if_pos (Int32.not_lt.mp g4), show skp ch E p + n = dnd ch E p by omega]
  · intro g
    by_cases c1 : n = 0
    · subst c1
      exact ⟨_, skp ch E p + 0, by omega, if_pos rfl⟩
    · rw [if_neg (nI_ne (by omega) (by omega) (by omega))]
      by_cases c2 : n = 4
      · subst c2
        exact ⟨_, skp ch E p + 4, by omega, if_pos (by decide)⟩
      · have en : n = dnd ch E p - skp ch E p := by omega
        rw [if_neg (show ¬ (3 : Int32) < nI n from nI_nlt (a := 3) (by omega) (by omega))]
        rw [← en, decide_eq_true (show skp ch E p < dnd ch E p ∧ dnd ch E p ≤ skp ch E p + 3 by omega), Bool.true_and] at g
        unfold inB at g
        by_cases c3 : nI (dval ch (skp ch E p) n) < lo
        · exact ⟨_, skp ch E p + n, by omega, if_pos c3⟩
        · rw [if_neg c3]
          have g4 : hi < nI (dval ch (skp ch E p) n) := by simpa [c3] using g
          exact ⟨_, skp ch E p + n, by omega, by rw [if_neg (fun q => absurd g4 (Int32.not_lt.mpr q))]⟩
end TXT
/-- the component's number -/
theorem X3_number_s {σ : Cs} {ch : Nat → Nat} {E p d : Nat} {b : Int32} (h : CB σ ch E) (hp : p ≤ E) (lo hi : Int32) : X3_number (rd σ p b d) lo hi = some (if numOk ch E p lo hi = true then (.inl (nI (numV ch E p), rd σ (dnd ch E p) (nI (skp ch E p)) d), (0, 0)) else (.inr (rd σ (dnd ch E p) (nI (skp ch E p)) d), (1, 6))) := by
  have hE := h.2.1
  have h1 := dnd_ge (ch := ch) (E := E) p
  have h0 := skp_le (ch := ch) hp
  have h2 := dnd_le (ch := ch) hp
  have fin : ∀ m x4, X3_figures_L7 lo hi 3 (m + 1) (rd σ (dnd ch E p) (nI (skp ch E p)) d) x4 = some (if skp ch E p < dnd ch E p ∧ dnd ch E p ≤ skp ch E p + 3 ∧ inB x4 lo hi = true then (.inl (x4, rd σ (dnd ch E p) (nI (skp ch E p)) d), (0, 0)) else (.inr (rd σ (dnd ch E p) (nI (skp ch E p)) d), (1, 6))) := by
    intro m x4
    unfold X3_figures_L7
    rw [rd_3, rd_4, X3_byteAt_s h h2]
    simp only [obs, in_s]
    have hz : inB (if dnd ch E p < E then sb (ch (dnd ch E p)) else -1) 48 57 = false := by
      by_cases c : dnd ch E p < E
      · rw [if_pos c, (sb_all _ (h.2.2 _ c).1).2.2.1]
        exact dg_boolF (fun q => dnd_end (ch := ch) (E := E) p ⟨c, q⟩)
      · rw [if_neg c]
        rfl
    rw [hz, if_pos (by decide)]
    by_cases c1 : dnd ch E p = skp ch E p
    · rw [if_pos (by rw [c1]), if_neg (fun g => by omega)]
    · rw [if_neg (nI_ne (by omega) (by omega) c1), pk_sub (by omega)]
      by_cases c2 : dnd ch E p ≤ skp ch E p + 3
      · rw [if_neg (show ¬ (3 : Int32) < nI (dnd ch E p - skp ch E p) from nI_nlt (a := 3) (by omega) (by omega))]
        cases e : inB x4 lo hi with
        | true => rw [if_neg (by decide), if_pos ⟨by omega, c2, rfl⟩]
        | false => rw [if_pos (by decide), if_neg (fun g => by cases g.2.2)]
      · rw [if_pos (show (3 : Int32) < nI (dnd ch E p - skp ch E p) from (nI_ltI (a := 3) (by decide) (by omega)).mpr (by omega)), if_neg (fun g => c2 g.2.1)]
  have key : ∀ k i m, i + k = dnd ch E p - skp ch E p → k < m → X3_figures_L7 lo hi 3 m (rd σ (skp ch E p + i) (nI (skp ch E p)) d) (nI (dval ch (skp ch E p) (min 3 i))) = some (if skp ch E p < dnd ch E p ∧ dnd ch E p ≤ skp ch E p + 3 ∧ inB (nI (dval ch (skp ch E p) (min 3 (dnd ch E p - skp ch E p)))) lo hi = true then (.inl (nI (dval ch (skp ch E p) (min 3 (dnd ch E p - skp ch E p))), rd σ (dnd ch E p) (nI (skp ch E p)) d), (0, 0)) else (.inr (rd σ (dnd ch E p) (nI (skp ch E p)) d), (1, 6))) := by
    intro k
    induction k with
    | zero =>
      intro i m e hm
      obtain ⟨m, rfl⟩ : ∃ m', m = m' + 1 := ⟨m - 1, by omega⟩
      rw [show skp ch E p + i = dnd ch E p by omega, show i = dnd ch E p - skp ch E p by omega]
      exact fin m _
    | succ k ih =>
      intro i m e hm
      obtain ⟨m, rfl⟩ : ∃ m', m = m' + 1 := ⟨m - 1, by omega⟩
      obtain ⟨g1, g2, g3⟩ := dg_b (ch := ch) (E := E) (p := p) (n := i + 1) (by omega) i (by omega)
      unfold X3_figures_L7
      rw [rd_3, rd_4, X3_byteAt_s h (by omega), if_pos g1]
      simp only [obs, in_s]
      rw [(sb_all _ (h.2.2 _ g1).1).2.2.1, dg_bool ⟨g2, g3⟩, if_neg (by decide), pk_sub (by omega), show skp ch E p + i - skp ch E p = i by omega, rd_p' (q := skp ch E p + (i + 1)) (y := nI (skp ch E p + i) + 1) (nI_1 (skp ch E p + i))]
      by_cases c : 3 ≤ i
      · rw [if_pos (show (3 : Int32) ≤ nI i from nI_le (a := 3) c (by omega))]
        have := ih (i + 1) m (by omega) (by omega)
        rw [show min 3 (i + 1) = 3 by omega] at this
        rw [show min 3 i = 3 by omega]
        exact this
      · rw [if_neg (show ¬ (3 : Int32) ≤ nI i from nI_ge (b := 3) (by omega) (by decide))]
        have hb := dval_lt (ch := ch) (s := skp ch E p) (n := i) (fun j hj => (dg_b (ch := ch) (E := E) (p := p) (n := i) (by omega) j hj).2.2)
        have hb2 : dval ch (skp ch E p) i < 2 ^ 20 := Nat.lt_of_lt_of_le hb (Nat.le_trans (Nat.pow_le_pow_right (by decide) (show i ≤ 3 by omega)) (by decide))
        have := ih (i + 1) m (by omega) (by omega)
        rw [show min 3 (i + 1) = i + 1 by omega] at this
        rw [show min 3 i = i by omega, sb_lo (by omega), dstep g2 g3 hb2]
        exact this
  unfold X3_number X3_figures
  rw [X3_blanks_s h hp]
  simp only [obs]
  have k0 := key (dnd ch E p - skp ch E p) 0 FU (by omega) (by unfold FU; omega)
  rw [show skp ch E p + 0 = skp ch E p from rfl, show nI (dval ch (skp ch E p) (min 3 0)) = 0 from rfl] at k0
  rw [k0]
  unfold numOk numV
  by_cases c : skp ch E p < dnd ch E p ∧ dnd ch E p ≤ skp ch E p + 3
  · rw [show min 3 (dnd ch E p - skp ch E p) = dnd ch E p - skp ch E p by omega, decide_eq_true c, Bool.true_and]
    cases e : inB (nI (dval ch (skp ch E p) (dnd ch E p - skp ch E p))) lo hi with
    | true => rw [if_pos ⟨c.1, c.2, rfl⟩, if_pos rfl]; rfl
    | false => rw [if_neg (fun g => by cases g.2.2), if_neg (by decide)]; rfl
  · rw [decide_eq_false c, Bool.false_and, if_neg (fun g => c ⟨g.1, g.2.1⟩), if_neg (by decide)]
    rfl
