/-! PURE: the law's parser, both sides at once -/
theorem wb : ∀ k : Nat, (wcap k = 16 ∧ wcs k = 0 ∧ wcc k = 0) ∨ (wcap k ≤ 2 * k ∧ wcs k ≤ 2 * wcap k ∧ 8 * wcc k ≤ wcap k) := by
  intro k
  induction k with
  | zero => exact Or.inl ⟨rfl, rfl, rfl⟩
  | succ k ih =>
    have e1 : wcap (k + 1) = if k = wcap k then 2 * wcap k + 2 else wcap k := rfl
    have e2 : wcs (k + 1) = wcs k + (if k = wcap k then 2 * wcap k + 2 else 0) := rfl
    have e3 : wcc (k + 1) = wcc k + (if k = wcap k then 1 else 0) := rfl
    have e0 := (wcap_ge k).2
    by_cases c : k = wcap k
    · rw [if_pos c] at e1 e2 e3
      right
      rcases ih with ⟨h1, h2, h3⟩ | ⟨h1, h2, h3⟩ <;> omega
    · rw [if_neg c] at e1 e2 e3
      rcases ih with ⟨h1, h2, h3⟩ | ⟨h1, h2, h3⟩
      · left; omega
      · right; omega
/-- what a word of n letters costs -/
theorem wcost (n : Nat) : 4 * (4 + wcc n) ≤ 16 + n ∧ 28 + wcs n + n ≤ 28 + 5 * n := by
  rcases wb n with ⟨h1, h2, h3⟩ | ⟨h1, h2, h3⟩ <;> omega
def fExt (f : FcV) : Prop := ∀ s s' : Nat → Int32, (∀ i, i < 9 → s i = s' i) → f s = f s'
def f01 (f : FcV) : Prop := ∀ s : Nat → Int32, z01 (s 7) → z01 (s 8) → z01 (f s)
def Tw (τ : Mm) (ch : Nat → Nat) (E : Nat) : Prop := TB τ ch E ∧ z01 (τ 10 15) ∧ z01 (τ 10 16)
def wl (ch : Nat → Nat) (E p : Nat) : Nat := wnd ch E p - skp ch E p
theorem factT_td {τ : Mm} {p : Nat} {dd f : Int32} : factT (td τ p dd f) = factT τ := by
  funext i
  unfold factT
  rw [td_r (by decide), td_j (by decide), td_j (by decide)]
/-- the two sides of a construct at p, d deep: it is well formed up to p', or wrong at g -/
def PS (σ : Cs) (ch : Nat → Nat) (E p d : Nat) (x1 : Option (FcP × Kc)) (A7 : Mm → Option (Int32 × Mm)) (zz : Bool) (B mn : Nat) (Bok : Nat → Kc → Prop) (Bno : Kc → Prop) : Prop :=
  ∃ out K, x1 = some (out, K) ∧ ((∃ (f : FcV) (p' : Nat) (b' : Int32), out = .inl (f, rd σ p' b' d) ∧ p + mn ≤ p' ∧ wnd ch E p ≤ p' ∧ p' ≤ E ∧ fExt f ∧ (zz = true → f01 f) ∧ Bok p' K ∧ ∀ τ, Tw τ ch E → A7 (td τ p (nI d) (-1)) = some (f (factT τ), td τ p' (nI d) (-1))) ∨ (∃ g p' d' : Nat, out = .inr (rd σ p' (nI g) d') ∧ g ≤ E ∧ Bno K ∧ ∀ τ, Tw τ ch E → ∃ (v : Int32) (a : Nat) (dd : Int32), (zz = true → z01 v) ∧ a ≤ B ∧ A7 (td τ p (nI d) (-1)) = some (v, td τ a dd (nI g))))
theorem addc_s {α : Type} {k : Kc} {r : α} {C : Kc} : addc k (some (r, C)) = some (r, (k.1 + C.1, k.2 + C.2)) := rfl
theorem bnd_l {A B : Type} {v : A × Cs} {k : Kc} {f : A × Cs → Option (((B × Cs) ⊕ Cs) × Kc)} : bnd (some (.inl v, k)) f = addc k (f v) := rfl
theorem bnd_r {A B : Type} {u : Cs} {k : Kc} {f : A × Cs → Option (((B × Cs) ⊕ Cs) × Kc)} : bnd (some ((.inr u : (A × Cs) ⊕ Cs), k)) f = some (.inr u, k) := by
  show addc k (some ((Sum.inr u : (B × Cs) ⊕ Cs), ((0 : Nat), (0 : Nat)))) = _
  rw [addc_s]
  rfl
theorem Tw.up {τ : Mm} {ch : Nat → Nat} {E : Nat} (h : Tw τ ch E) : TB τ ch E := h.1
def fndB (q : Nat → Bool) : Nat → Nat → Option Nat
  | 0, _ => none
  | k + 1, i => if q i = true then some i else fndB q k (i + 1)
section LPAR
variable {σ : Cs} {ch : Nat → Nat} {E : Nat}
theorem efnd_s (h : CB σ ch E) {p d : Nat} (hp : p ≤ E) (js : Nat → Nat) : ∀ n i, efnd js (rd σ (wnd ch E p) (nI (skp ch E p)) d) n i = fndB (fun i => wq ch E p (js i)) n i := by
  intro n
  induction n with
  | zero => intro i; rfl
  | succ n ih =>
    intro i
    unfold efnd fndB
    rw [weqR_s h hp]
    cases e : wq ch E p (js i) with
    | true => rw [if_neg (by decide), if_pos rfl]
    | false => rw [if_pos (by decide), if_neg (by decide), ih]
theorem T_has' {τ : Mm} {p : Nat} {dd f : Int32} (h : TB τ ch E) (hp : p ≤ E) (i : Nat) (hi : lenS.getD i 0 ≤ 40) : X7_has (td τ (skp ch E p) dd f) i = some (b01 (wq ch E p i), td τ (if wq ch E p i = true then wnd ch E p else skp ch E p) dd f) := by
  rw [T_has h (skp_le hp) i hi, wq_skp, wnd_skp, skp_idem]
theorem wq_wl {p i : Nat} (h : wq ch E p i = true) : wl ch E p = lenS.getD i 0 := (of_decide_eq_true h).1
def figB (ch : Nat → Nat) (E p : Nat) : Bool := decide (skp ch E p < E) && isDg ch (skp ch E p)
theorem figB_no {p : Nat} (h : figB ch E p = true) : wnd ch E p = skp ch E p := by
  obtain ⟨h1, h2⟩ := (Bool.and_eq_true _ _).mp h
  have h3 := (isDg_e _).mp h2
  exact wnd_no (fun g => by omega)
def fctI (ch : Nat → Nat) (E p : Nat) : Option Nat := fndB (fun i => wq ch E p (jsF i)) 7 0
theorem fct_e (p : Nat) : fctI ch E p = if wq ch E p 4 = true then some 0 else if wq ch E p 3 = true then some 1 else if wq ch E p 14 = true then some 2 else if wq ch E p 28 = true then some 3 else if wq ch E p 31 = true then some 4 else if wq ch E p 5 = true then some 5 else if wq ch E p 6 = true then some 6 else none := rfl
theorem fct_l {p i : Nat} (h : fctI ch E p = some i) : i < 7 ∧ 3 ≤ wl ch E p := by
  rw [fct_e] at h
  have hl : ∀ j, j = 4 ∨ j = 3 ∨ j = 14 ∨ j = 28 ∨ j = 31 ∨ j = 5 ∨ j = 6 → 3 ≤ lenS.getD j 0 := by
    intro j hj
    rcases hj with h | h | h | h | h | h | h <;> subst h <;> decide
  by_cases c1 : wq ch E p 4 = true
  · rw [if_pos c1] at h; cases h; exact ⟨by decide, by rw [wq_wl c1]; exact hl 4 (by omega)⟩
  rw [if_neg c1] at h
  by_cases c2 : wq ch E p 3 = true
  · rw [if_pos c2] at h; cases h; exact ⟨by decide, by rw [wq_wl c2]; exact hl 3 (by omega)⟩
  rw [if_neg c2] at h
  by_cases c3 : wq ch E p 14 = true
  · rw [if_pos c3] at h; cases h; exact ⟨by decide, by rw [wq_wl c3]; exact hl 14 (by omega)⟩
  rw [if_neg c3] at h
  by_cases c4 : wq ch E p 28 = true
  · rw [if_pos c4] at h; cases h; exact ⟨by decide, by rw [wq_wl c4]; exact hl 28 (by omega)⟩
  rw [if_neg c4] at h
  by_cases c5 : wq ch E p 31 = true
  · rw [if_pos c5] at h; cases h; exact ⟨by decide, by rw [wq_wl c5]; exact hl 31 (by omega)⟩
  rw [if_neg c5] at h
  by_cases c6 : wq ch E p 5 = true
  · rw [if_pos c6] at h; cases h; exact ⟨by decide, by rw [wq_wl c6]; exact hl 5 (by omega)⟩
  rw [if_neg c6] at h
  by_cases c7 : wq ch E p 6 = true
  · rw [if_pos c7] at h; cases h; exact ⟨by decide, by rw [wq_wl c7]; exact hl 6 (by omega)⟩
  rw [if_neg c7] at h
  cases h
theorem T_fct {τ : Mm} {p : Nat} {dd : Int32} (h : TB τ ch E) (hp : p ≤ E) : X7_part_J52 (td τ (skp ch E p) dd (-1)) = match fctI ch E p with
    | none => some (0, td τ (skp ch E p) dd (nI (skp ch E p)))
    | some i => some (τ 5 i, td τ (wnd ch E p) dd (-1)) := by
  have fin : ∀ i, i < 7 → X7_part_J145 (td τ (wnd ch E p) dd (-1)) (nI i) = some (τ 5 i, td τ (wnd ch E p) dd (-1)) := by
    intro i hi
    unfold X7_part_J145
    rw [if_neg (nI_nm1 (by omega)), td_r (by decide), ldN hi (by decide)]
    rfl
  rw [fct_e]
  unfold X7_part_J52
  simp only [T_has' h hp 4 (by decide), obs]
  by_cases c1 : wq ch E p 4 = true
  · rw [c1, if_neg (by decide), if_pos rfl, if_pos rfl]; exact fin 0 (by decide)
  have c1 : wq ch E p 4 = false := by simpa using c1
  simp only [c1, if_pos (show b01 false = 0 from rfl), if_neg (show ¬ false = true from by decide), T_has' h hp 3 (by decide), obs]
  by_cases c2 : wq ch E p 3 = true
  · rw [c2, if_neg (by decide), if_pos rfl, if_pos rfl]; exact fin 1 (by decide)
  have c2 : wq ch E p 3 = false := by simpa using c2
  simp only [c2, if_pos (show b01 false = 0 from rfl), if_neg (show ¬ false = true from by decide), T_has' h hp 14 (by decide), obs]
  by_cases c3 : wq ch E p 14 = true
  · rw [c3, if_neg (by decide), if_pos rfl, if_pos rfl]; exact fin 2 (by decide)
  have c3 : wq ch E p 14 = false := by simpa using c3
  simp only [c3, if_pos (show b01 false = 0 from rfl), if_neg (show ¬ false = true from by decide), T_has' h hp 28 (by decide), obs]
  by_cases c4 : wq ch E p 28 = true
  · rw [c4, if_neg (by decide), if_pos rfl, if_pos rfl]; exact fin 3 (by decide)
  have c4 : wq ch E p 28 = false := by simpa using c4
  simp only [c4, if_pos (show b01 false = 0 from rfl), if_neg (show ¬ false = true from by decide), T_has' h hp 31 (by decide), obs]
  by_cases c5 : wq ch E p 31 = true
  · rw [c5, if_neg (by decide), if_pos rfl, if_pos rfl]; exact fin 4 (by decide)
  have c5 : wq ch E p 31 = false := by simpa using c5
  simp only [c5, if_pos (show b01 false = 0 from rfl), if_neg (show ¬ false = true from by decide), T_has' h hp 5 (by decide), obs]
  by_cases c6 : wq ch E p 5 = true
  · rw [c6, if_neg (by decide), if_pos rfl, if_pos rfl]; exact fin 5 (by decide)
  have c6 : wq ch E p 5 = false := by simpa using c6
  simp only [c6, if_pos (show b01 false = 0 from rfl), if_neg (show ¬ false = true from by decide), T_has' h hp 6 (by decide), obs]
  by_cases c7 : wq ch E p 6 = true
  · rw [c7, if_neg (by decide), if_pos rfl, if_pos rfl]; exact fin 6 (by decide)
  have c7 : wq ch E p 6 = false := by simpa using c7
  simp only [c7, if_pos (show b01 false = 0 from rfl), if_neg (show ¬ false = true from by decide)]
  unfold X7_part_J145
  rw [if_pos rfl, td_11, T_wrong1]
  rfl
/-- a part of a sum -/
theorem S_part (h : CB σ ch E) {p d : Nat} {b : Int32} (hp : p ≤ E) : PS σ ch E p d (X1_onePart (rd σ p b d)) X7_part false 400 1 (fun p' K => 4 * K.1 ≤ 9 * (p' - p) ∧ K.2 ≤ 18 * (p' - p)) (fun K => 4 * K.1 ≤ 440 ∧ K.2 ≤ 2050) := by
  have hE := h.2.1
  have g1 := skp_ge (ch := ch) (E := E) p
  have g2 := skp_le (ch := ch) hp
  have g3 := wnd_ge (ch := ch) (E := E) p
  have g4 := wnd_le (ch := ch) hp
  have g5 := dnd_le (ch := ch) hp
  have head : ∀ τ, TB τ ch E → X7_part (td τ p (nI d) (-1)) = if figB ch E p = true then X7_figures (td τ (skp ch E p) (nI d) (-1)) 0 999 else X7_part_J52 (td τ (skp ch E p) (nI d) (-1)) := by
    intro τ hτ
    unfold X7_part
    rw [td_12, if_pos rfl, T_skip hτ]
    simp only [obs]
    rw [td_j (by decide), hτ.1, td_11]
    unfold figB
    by_cases c : skp ch E p < E
    · rw [if_neg (nI_ge c (by omega)), T_letter hτ c, decide_eq_true c, Bool.true_and]
      simp only [obs, isIn_s, (nB_all _ (hτ.2.2.1 _ c)).2]
      show (if b01 (isDg ch (skp ch E p)) = 0 then _ else _) = _
      cases e : isDg ch (skp ch E p) with
      | true =>
        rw [if_neg (by decide), if_pos rfl]
        cases X7_figures (td τ (skp ch E p) (nI d) (-1)) 0 999 <;> rfl
      | false => rw [if_pos (by decide), if_neg (by decide)]
    · rw [if_pos (nI_le (by omega) (by omega)), decide_eq_false c, Bool.false_and, if_neg (by decide)]
  unfold PS X1_onePart
  rw [X3_isFigure_s h hp]
  simp only [obs]
  show ∃ out K, (if b01 (figB ch E p) = 0 then _ else _) = some (out, K) ∧ _
  cases e : figB ch E p with
  | true =>
    have hw := figB_no e
    rw [if_neg (by decide), X3_number_s h g2, numOk_skp, numV_skp, dnd_skp, skp_idem]
    have hs : skp ch E p < dnd ch E p := by
      obtain ⟨a1, a2⟩ := (Bool.and_eq_true _ _).mp e
      have a1 := of_decide_eq_true a1
      have a3 := (isDg_e _).mp a2
      rcases Nat.lt_or_ge (skp ch E p) (dnd ch E p) with c | c
      · exact c
      · exfalso
        have d1 := dnd_ge (ch := ch) (E := E) p
        have d2 := dnd_end (ch := ch) (E := E) p
        rw [show dnd ch E p = skp ch E p by omega] at d2
        exact d2 ⟨a1, a3⟩
    cases e2 : numOk ch E p 0 999 with
    | true =>
      rw [if_pos rfl, bnd_l, addc_s, addc_s]
      refine ⟨_, _, rfl, Or.inl ⟨_, _, _, rfl, by omega, by omega, g5, fun s s' _ => rfl, fun g => (by cases g), ⟨by show 4 * (1 + (0 + 0)) ≤ _; omega, by show 2 + (0 + 0) ≤ _; omega⟩, fun τ hτ => ?_⟩⟩
      rw [head τ hτ.1, if_pos e]
      have := (T_figures hτ.1 (p := skp ch E p) (dd := nI d) g2 0 999).1 (by rw [numOk_skp]; exact e2)
      rw [this, numV_skp, dnd_skp]
    | false =>
      rw [if_neg (by decide), bnd_r, addc_s]
      refine ⟨_, _, rfl, Or.inr ⟨_, _, _, rfl, g2, ⟨by show 4 * (1 + 1) ≤ 440; omega, by show 2 + 6 ≤ 2050; omega⟩, fun τ hτ => ?_⟩⟩
      obtain ⟨v, q, hq, t⟩ := (T_figures hτ.1 (p := skp ch E p) (dd := nI d) g2 0 999).2 (by rw [numOk_skp]; exact e2)
      rw [skp_idem] at t
      exact ⟨v, q, _, fun g => by (cases g), by omega, by rw [head τ hτ.1, if_pos e]; exact t⟩
  | false =>
    rw [if_pos (by decide), X3_word_s h g2]
    rw [obs, wnd_skp, skp_idem, efnd_s (d := d) h hp jsF 7 0]
    have wc := wcost (wl ch E p)
    have hl : wC (rd σ (wnd ch E p) (nI (skp ch E p)) d) = 4 + wcc (wl ch E p) := by
      unfold wC
      rw [wlen_rd (by omega) (by omega)]
      rfl
    have hs : wS (rd σ (wnd ch E p) (nI (skp ch E p)) d) = 28 + wcs (wl ch E p) + wl ch E p := by
      unfold wS
      rw [wlen_rd (by omega) (by omega)]
      rfl
    rw [hl, hs]
    show ∃ out K, addc _ (addc _ (Option.elim (fctI ch E p) _ _)) = some (out, K) ∧ _
    cases e2 : fctI ch E p with
    | none =>
      rw [show ∀ (b : Option (FcP × Kc)) f, Option.elim (none : Option Nat) b f = b from fun _ _ => rfl, addc_s, addc_s]
      refine ⟨_, _, rfl, Or.inr ⟨_, _, _, rfl, g2, ⟨?_, ?_⟩, fun τ hτ => ⟨0, skp ch E p, nI d, fun g => by (cases g), by omega, ?_⟩⟩⟩
      · show 4 * (4 + wcc (wl ch E p) + (1 + 1)) ≤ 440
        have : wl ch E p ≤ 400 := by unfold wl; omega
        omega
      · show 28 + wcs (wl ch E p) + wl ch E p + (7 + 6) ≤ 2050
        have : wl ch E p ≤ 400 := by unfold wl; omega
        omega
      · rw [head τ hτ.1, if_neg (by rw [e]; decide), T_fct hτ.1 hp, e2]
    | some i =>
      obtain ⟨hi, h3⟩ := fct_l e2
      rw [show ∀ (b : Option (FcP × Kc)) f, Option.elim (some i) b f = f i from fun _ _ => rfl, addc_s, addc_s, addc_s]
      have hw : wl ch E p = wnd ch E p - skp ch E p := rfl
      refine ⟨_, _, rfl, Or.inl ⟨_, _, _, rfl, by omega, Nat.le_refl _, g4, fun s s' hs' => hs' i (by omega), fun g => (by cases g), ⟨?_, ?_⟩, fun τ hτ => ?_⟩⟩
      · show 4 * (4 + wcc (wl ch E p) + (1 + (1 + 0))) ≤ 9 * (wnd ch E p - p)
        omega
      · show 28 + wcs (wl ch E p) + wl ch E p + (7 + (2 + 0)) ≤ 18 * (wnd ch E p - p)
        omega
      · rw [head τ hτ.1, if_neg (by rw [e]; decide), T_fct hτ.1 hp, e2]
        show some (τ 5 i, _) = some (factT τ i, _)
        unfold factT
        rw [if_pos hi]
end LPAR
