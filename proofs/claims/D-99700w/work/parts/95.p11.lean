/-! PURE: lines of the law, the law's text, both sides -/
def lnT (τ : Mm) (r c : Int32) : Mm := mup (mup τ 10 17 r) 10 18 c
def dR (i : Nat) (v w : Int32) : Int32 := if w = 0 then 0 else if i = 0 then v else if i = 1 then -v else 0
def dC (i : Nat) (v w : Int32) : Int32 := if w = 0 then 0 else if i = 2 then v else 0
section LNT
variable {τ : Mm} {r c : Int32}
theorem lnT_r {q : Nat} (h : q ≠ 10) : lnT τ r c q = τ q := by
  unfold lnT
  rw [mup_r h, mup_r h]
theorem lnT_j {j : Nat} (h : j ≠ 17 ∧ j ≠ 18) : lnT τ r c 10 j = τ 10 j := by
  unfold lnT
  rw [mup_j h.2, mup_j h.1]
theorem lnT_17 : lnT τ r c 10 17 = r := by
  unfold lnT
  rw [mup_j (by decide), mup_s]
theorem lnT_18 : lnT τ r c 10 18 = c := by
  unfold lnT
  rw [mup_s]
theorem lnT_self : lnT τ (τ 10 17) (τ 10 18) = τ := by
  unfold lnT
  rw [mup_same, mup_same]
theorem lnT_lnT {r' c' : Int32} : lnT (lnT τ r c) r' c' = lnT τ r' c' := by
  funext a b
  unfold lnT mup upd
  by_cases ha : a = 10
  · by_cases h1 : b = 17
    · subst h1; simp [ha]
    · by_cases h2 : b = 18
      · subst h2; simp [ha]
      · simp [ha, h1, h2]
  · simp [ha]
theorem lnT_fact : factT (lnT τ r c) = factT τ := by
  funext i
  unfold factT
  rw [lnT_r (by decide), lnT_j (by decide), lnT_j (by decide)]
theorem lnT_Tw {ch : Nat → Nat} {E : Nat} (h : Tw τ ch E) : Tw (lnT τ r c) ch E := by
  obtain ⟨⟨h1, h2, h3, h4⟩, h5, h6⟩ := h
  refine ⟨⟨?_, h2, h3, ?_⟩, ?_, ?_⟩
  · rw [lnT_j (by decide)]; exact h1
  · rw [lnT_j (by decide), lnT_r (by decide), lnT_r (by decide)]; exact h4
  · rw [lnT_j (by decide)]; exact h5
  · rw [lnT_j (by decide)]; exact h6
end LNT
def kndI (ch : Nat → Nat) (E p : Nat) : Option Nat := fndB (fun i => wq ch E p (jsK i)) 3 0
section LLINE
variable {σ : Cs} {ch : Nat → Nat} {E : Nat}
theorem knd_e (p : Nat) : kndI ch E p = if wq ch E p 28 = true then some 0 else if wq ch E p 29 = true then some 1 else if wq ch E p 30 = true then some 2 else none := rfl
theorem knd_l {p i : Nat} (h : kndI ch E p = some i) : i < 3 ∧ wl ch E p = 4 := by
  rw [knd_e] at h
  by_cases c1 : wq ch E p 28 = true
  · rw [if_pos c1] at h; cases h; exact ⟨by decide, wq_wl c1⟩
  rw [if_neg c1] at h
  by_cases c2 : wq ch E p 29 = true
  · rw [if_pos c2] at h; cases h; exact ⟨by decide, wq_wl c2⟩
  rw [if_neg c2] at h
  by_cases c3 : wq ch E p 30 = true
  · rw [if_pos c3] at h; cases h; exact ⟨by decide, wq_wl c3⟩
  rw [if_neg c3] at h
  cases h
theorem T_knd {τ : Mm} {p : Nat} {dd : Int32} (h : TB τ ch E) (hp : p ≤ E) : X7_lawLine (td τ (skp ch E p) dd (-1)) = match kndI ch E p with
    | none => some (td τ (skp ch E p) dd (nI (skp ch E p)))
    | some i => X7_lawLine_J41 (td τ (wnd ch E p) dd (-1)) (nI i) := by
  rw [knd_e]
  unfold X7_lawLine
  simp only [T_has' h hp 28 (by decide), obs]
  by_cases c1 : wq ch E p 28 = true
  · rw [c1, if_neg (by decide), if_pos rfl, if_pos rfl]; rfl
  have c1 : wq ch E p 28 = false := by simpa using c1
  simp only [c1, if_pos (show b01 false = 0 from rfl), if_neg (show ¬ false = true from by decide), T_has' h hp 29 (by decide), obs]
  by_cases c2 : wq ch E p 29 = true
  · rw [c2, if_neg (by decide), if_pos rfl, if_pos rfl]; rfl
  have c2 : wq ch E p 29 = false := by simpa using c2
  simp only [c2, if_pos (show b01 false = 0 from rfl), if_neg (show ¬ false = true from by decide), T_has' h hp 30 (by decide), obs]
  by_cases c3 : wq ch E p 30 = true
  · rw [c3, if_neg (by decide), if_pos rfl, if_pos rfl]; rfl
  have c3 : wq ch E p 30 = false := by simpa using c3
  simp only [c3, if_pos (show b01 false = 0 from rfl), if_neg (show ¬ false = true from by decide)]
  unfold X7_lawLine_J41
  rw [if_pos rfl, td_11, T_wrong1]
  rfl
theorem T_eff {τ : Mm} {p i : Nat} {dd v w : Int32} (hi : i < 3) : (if w = 0 then X7_lawLine_J95 (td τ p dd (-1)) (nI i) v 0 else X7_lawLine_J90 (td τ p dd (-1)) (nI i) v) = some (td (lnT τ (τ 10 17 + dR i v w) (τ 10 18 + dC i v w)) p dd (-1)) := by
  unfold dR dC
  by_cases c : w = 0
  · rw [if_pos c, if_pos c, if_pos c]
    unfold X7_lawLine_J95
    rw [td_12, if_pos rfl, if_pos rfl, Int32.add_zero, Int32.add_zero, lnT_self]
  · rw [if_neg c, if_neg c, if_neg c]
    unfold X7_lawLine_J90 X7_lawLine_J95 X7_lawLine_J133
    rw [td_12, if_pos rfl, if_neg (by decide), td_j (by decide)]
    have fin : ∀ y z : Int32, mup (mup (td τ p dd (-1)) 10 17 y) 10 18 z = td (lnT τ y z) p dd (-1) := by
      intro y z
      rw [td_o (Or.inr ⟨by decide, by decide, by decide⟩), td_o (Or.inr ⟨by decide, by decide, by decide⟩)]
      rfl
    have h18 : ∀ y : Int32, mup (td τ p dd (-1)) 10 17 y 10 18 = τ 10 18 := by
      intro y
      rw [mup_j (by decide), td_j (by decide)]
    rcases (show i = 0 ∨ i = 1 ∨ i = 2 by omega) with e | e | e <;> subst e
    · rw [if_pos (show nI 0 = (0 : Int32) from rfl), if_pos rfl, if_neg (show ¬ 0 = 2 by decide)]
      rw [obs, if_neg (show ¬ nI 0 = (2 : Int32) by decide), h18, obs, fin]
    · rw [if_neg (show ¬ nI 1 = (0 : Int32) by decide), if_pos (show nI 1 = (1 : Int32) from rfl), if_neg (show ¬ 1 = 0 by decide), if_pos rfl, if_neg (show ¬ 1 = 2 by decide)]
      rw [obs, if_neg (show ¬ nI 1 = (2 : Int32) by decide), h18, obs, fin]
    · rw [if_neg (show ¬ nI 2 = (0 : Int32) by decide), if_neg (show ¬ nI 2 = (1 : Int32) by decide), if_neg (show ¬ 2 = 0 by decide), if_neg (show ¬ 2 = 1 by decide), if_pos rfl]
      rw [obs, if_pos (show nI 2 = (2 : Int32) from rfl), h18, obs, fin]
/-- what a line answers, on both sides -/
def LnS (σ : Cs) (ch : Nat → Nat) (E p : Nat) (x1 : Option (FcL × Kc)) (Bok : Nat → Kc → Prop) (Bno : Kc → Prop) : Prop :=
  ∃ out K, x1 = some (out, K) ∧ ((∃ (i : Nat) (v : Int32) (w : FcV) (p' : Nat) (b' : Int32), out = .inl ((i, v, w), rd σ p' b' 0) ∧ i < 3 ∧ p + 2 ≤ p' ∧ p' ≤ E ∧ fExt w ∧ Bok p' K ∧ ∀ τ, Tw τ ch E → X7_lawLine (td τ (skp ch E p) (nI 0) (-1)) = some (td (lnT τ (τ 10 17 + dR i v (w (factT τ))) (τ 10 18 + dC i v (w (factT τ)))) p' (nI 0) (-1))) ∨ (∃ g p' d' : Nat, out = .inr (rd σ p' (nI g) d') ∧ g ≤ E ∧ Bno K ∧ ∀ τ, Tw τ ch E → ∃ (a : Nat) (dd : Int32), a ≤ 408 ∧ X7_lawLine (td τ (skp ch E p) (nI 0) (-1)) = some (td τ a dd (nI g))))
theorem S_line (h : CB σ ch E) {p : Nat} {b : Int32} (hp : p ≤ E) : LnS σ ch E p (X1_lawLine (rd σ p b 0)) (fun p' K => 4 * K.1 + 16 ≤ 60 * (p' - p) + 2 * (16 + wl ch E p') ∧ K.2 + 60 ≤ 150 * (p' - p) + 2 * (28 + 5 * wl ch E p')) (fun K => 4 * K.1 ≤ 60 * (E - p) + 4016 ∧ K.2 ≤ 150 * (E - p) + 20090) := by
  have hE := h.2.1
  have g1 := skp_ge (ch := ch) (E := E) p
  have g2 := skp_le (ch := ch) hp
  have g3 := wnd_ge (ch := ch) (E := E) p
  have g4 := wnd_le (ch := ch) hp
  have wc := wcost (wl ch E p)
  have hw : wl ch E p = wnd ch E p - skp ch E p := rfl
  unfold LnS X1_lawLine
  rw [X3_word_s h hp, obs, efnd_s (d := 0) h hp jsK 3 0]
  have hl : wC (rd σ (wnd ch E p) (nI (skp ch E p)) 0) = 4 + wcc (wl ch E p) := by
    unfold wC
    rw [wlen_rd (by omega) (by omega)]
    rfl
  have hs : wS (rd σ (wnd ch E p) (nI (skp ch E p)) 0) = 28 + wcs (wl ch E p) + wl ch E p := by
    unfold wS
    rw [wlen_rd (by omega) (by omega)]
    rfl
  rw [hl, hs]
  show ∃ out K, addc _ (addc _ (Option.elim (kndI ch E p) _ _)) = some (out, K) ∧ _
  cases e2 : kndI ch E p with
  | none =>
    rw [show ∀ (b : Option (FcL × Kc)) f, Option.elim (none : Option Nat) b f = b from fun _ _ => rfl, addc_s, addc_s]
    refine ⟨_, _, rfl, Or.inr ⟨_, _, _, rfl, g2, ⟨?_, ?_⟩, fun τ hτ => ⟨skp ch E p, nI 0, by omega, ?_⟩⟩⟩
    · show 4 * (4 + wcc (wl ch E p) + (1 + 1)) ≤ _
      omega
    · show 28 + wcs (wl ch E p) + wl ch E p + (3 + 6) ≤ _
      omega
    · rw [T_knd hτ.1 hp, e2]
  | some i =>
    obtain ⟨hi, h4⟩ := knd_l e2
    rw [show ∀ (b : Option (FcL × Kc)) f, Option.elim (some i) b f = f i from fun _ _ => rfl]
    have q1 := skp_ge (ch := ch) (E := E) (wnd ch E p)
    have q2 := skp_le (ch := ch) g4
    have q3 := dnd_ge (ch := ch) (E := E) (wnd ch E p)
    have q4 := dnd_le (ch := ch) g4
    rw [X3_number_s h g4]
    have head : ∀ τ, Tw τ ch E → X7_lawLine (td τ (skp ch E p) (nI 0) (-1)) = (X7_figures (td τ (wnd ch E p) (nI 0) (-1)) 0 40).bind fun x60 => if (x60.2 10 12) = -1 then (X7_has x60.2 22).bind fun x77 => if x77.1 = 0 then X7_lawLine_J90 x77.2 (nI i) x60.1 else (X7_some (X7_atom 9) x77.2).bind fun x84 => if x84.1 = 0 then X7_lawLine_J95 x84.2 (nI i) x60.1 0 else X7_lawLine_J90 x84.2 (nI i) x60.1 else some x60.2 := by
      intro τ hτ
      rw [T_knd hτ.1 hp, e2]
      show X7_lawLine_J41 _ (nI i) = _
      unfold X7_lawLine_J41
      rw [if_neg (nI_nm1 (by omega))]
    cases e3 : numOk ch E (wnd ch E p) 0 40 with
    | false =>
      rw [if_neg (by decide), bnd_r, addc_s, addc_s]
      refine ⟨_, _, rfl, Or.inr ⟨_, _, _, rfl, q2, ⟨?_, ?_⟩, fun τ hτ => ?_⟩⟩
      · show 4 * (4 + wcc (wl ch E p) + (1 + 1)) ≤ _
        omega
      · show 28 + wcs (wl ch E p) + wl ch E p + (3 + 6) ≤ _
        omega
      · obtain ⟨v, q, hq, t⟩ := (T_figures hτ.1 (dd := nI 0) g4 0 40).2 e3
        refine ⟨q, nI 0, by omega, ?_⟩
        rw [head τ hτ, t, obs]
        simp only []
        rw [td_12, if_neg (nI_nm1 (by omega))]
    | true =>
      have hdg : skp ch E (wnd ch E p) < dnd ch E (wnd ch E p) := by
        unfold numOk at e3
        exact (of_decide_eq_true ((Bool.and_eq_true _ _).mp e3).1).1
      rw [if_pos rfl, bnd_l]
      obtain ⟨K2, e4, ek⟩ := X3_passes_s (b := nI (skp ch E (wnd ch E p))) (d := 0) h q4 22
      rw [e4, bnd_l]
      have s1 := skp_ge (ch := ch) (E := E) (dnd ch E (wnd ch E p))
      have s2 := skp_le (ch := ch) q4
      have s3 := wnd_ge (ch := ch) (E := E) (dnd ch E (wnd ch E p))
      have s4 := wnd_le (ch := ch) q4
      have wc2 := wcost (wl ch E (dnd ch E (wnd ch E p)))
      have hw2 : wl ch E (dnd ch E (wnd ch E p)) = wnd ch E (dnd ch E (wnd ch E p)) - skp ch E (dnd ch E (wnd ch E p)) := rfl
      have hK2 : 4 * K2.1 ≤ 16 + wl ch E (dnd ch E (wnd ch E p)) ∧ K2.2 ≤ 28 + 5 * wl ch E (dnd ch E (wnd ch E p)) := by rw [ek]; exact ⟨wc2.1, wc2.2⟩
      have head2 : ∀ τ, Tw τ ch E → X7_lawLine (td τ (skp ch E p) (nI 0) (-1)) = if wq ch E (dnd ch E (wnd ch E p)) 22 = true then (X7_some (X7_atom 9) (td τ (wnd ch E (dnd ch E (wnd ch E p))) (nI 0) (-1))).bind fun x84 => if x84.1 = 0 then X7_lawLine_J95 x84.2 (nI i) (nI (numV ch E (wnd ch E p))) 0 else X7_lawLine_J90 x84.2 (nI i) (nI (numV ch E (wnd ch E p))) else X7_lawLine_J90 (td τ (skp ch E (dnd ch E (wnd ch E p))) (nI 0) (-1)) (nI i) (nI (numV ch E (wnd ch E p))) := by
        intro τ hτ
        rw [head τ hτ, (T_figures hτ.1 (dd := nI 0) g4 0 40).1 e3, obs]
        simp only []
        rw [td_12, if_pos rfl, T_has hτ.1 q4 22 (by decide)]
        simp only [obs]
        cases wq ch E (dnd ch E (wnd ch E p)) 22 with
        | true => rw [if_neg (by decide), if_pos rfl, if_pos rfl]
        | false => rw [if_pos (by decide), if_neg (by decide), if_neg (by decide)]
      cases e5 : wq ch E (dnd ch E (wnd ch E p)) 22 with
      | false =>
        simp only [↓reduceIte, Bool.false_eq_true]
        rw [if_pos (by decide), addc_s, addc_s, addc_s, addc_s]
        refine ⟨_, _, rfl, Or.inl ⟨i, nI (numV ch E (wnd ch E p)), fun _ => 1, _, _, rfl, hi, by omega, s2, fun _ _ _ => rfl, ⟨?_, ?_⟩, fun τ hτ => ?_⟩⟩
        · rw [wl_skp]
          show 4 * (4 + wcc (wl ch E p) + (1 + (0 + (1 + (K2.1 + 0))))) + 16 ≤ _
          omega
        · rw [wl_skp]
          show 28 + wcs (wl ch E p) + wl ch E p + (3 + (0 + (3 + (K2.2 + 0)))) + 60 ≤ _
          omega
        · rw [head2 τ hτ, e5, if_neg (by decide)]
          have := T_eff (τ := τ) (p := skp ch E (dnd ch E (wnd ch E p))) (dd := nI 0) (v := nI (numV ch E (wnd ch E p))) (w := 1) hi
          rw [if_neg (by decide)] at this
          exact this
      | true =>
        have hif := wq_wl e5
        have hif2 : lenS.getD 22 0 = 2 := rfl
        simp only [↓reduceIte]
        rw [if_neg (by decide)]
        obtain ⟨out, K, ex, hc⟩ := S_row (d := 0) (b := nI (skp ch E (dnd ch E (wnd ch E p)))) (p := wnd ch E (dnd ch E (wnd ch E p))) h s4 (j := 27) (all := 0) (B := 401 + 7) (te := 1) (ec := 20) (es := 57) (tc := 4008) (ts := 20045) (by decide) (Or.inl rfl) (by decide) (by decide) (by decide) (fun q b' hq => S_row (d := 0) (b := b') (p := q) h hq (j := 26) (all := 1) (B := 401 + 7) (te := 0) (ec := 32) (es := 110) (tc := 4000) (ts := 20000) (by decide) (Or.inr rfl) (by decide) (by decide) (by decide) (fun q b' hq => S_atom h 7 q 0 b' hq (by decide) (by decide)))
        unfold X1_cond
        rw [ex]
        rcases hc with ⟨f, p1, b1, rfl, a1, a2, a3, a4, a8, ⟨a5, a6⟩, a7⟩ | ⟨g, p1, d1, rfl, a1, ⟨a2, a3⟩, a4⟩
        · rw [bnd_l]
          simp only [addc_s]
          refine ⟨_, _, rfl, Or.inl ⟨i, nI (numV ch E (wnd ch E p)), f, p1, b1, rfl, hi, by omega, a3, a4, ⟨?_, ?_⟩, fun τ hτ => ?_⟩⟩
          · show 4 * (4 + wcc (wl ch E p) + (1 + (0 + (1 + (K2.1 + (K.1 + 0)))))) + 16 ≤ _
            omega
          · show 28 + wcs (wl ch E p) + wl ch E p + (3 + (0 + (3 + (K2.2 + (K.2 + 0))))) + 60 ≤ _
            omega
          · rw [head2 τ hτ, e5, if_pos rfl, some_R, every_R]
            have := a7 τ hτ
            rw [if_pos (show (1 : Int32) = 1 from rfl), if_neg (show ¬ (0 : Int32) = 1 by decide)] at this
            rw [this, obs]
            exact T_eff hi
        · rw [bnd_r]
          simp only [addc_s]
          refine ⟨_, _, rfl, Or.inr ⟨g, p1, d1, rfl, a1, ⟨?_, ?_⟩, fun τ hτ => ?_⟩⟩
          · show 4 * (4 + wcc (wl ch E p) + (1 + (0 + (1 + (K2.1 + K.1))))) ≤ _
            omega
          · show 28 + wcs (wl ch E p) + wl ch E p + (3 + (0 + (3 + (K2.2 + K.2)))) ≤ _
            omega
          · obtain ⟨v, a, dd, z, y1, y2⟩ := a4 τ hτ
            refine ⟨a, dd, y1, ?_⟩
            rw [head2 τ hτ, e5, if_pos rfl, some_R, every_R]
            rw [if_pos (show (1 : Int32) = 1 from rfl), if_neg (show ¬ (0 : Int32) = 1 by decide)] at y2
            rw [y2, obs]
            unfold X7_lawLine_J90 X7_lawLine_J95
            simp only []
            rw [td_12, if_neg (nI_nm1 (by omega)), if_neg (nI_nm1 (by omega))]
            split <;> rfl
end LLINE
