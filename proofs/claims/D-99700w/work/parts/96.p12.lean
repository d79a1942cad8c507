/-! PURE: the law's text, both sides -/
section LTEXT
variable {σ : Cs} {ch : Nat → Nat} {E : Nat}
theorem noMore_s (h : CB σ ch E) {p n : Nat} {b : Int32} (hp : p ≤ E) (hn : n ≤ 12) : ∃ K, K.1 ≤ 4 + wcc (wl ch E p) + 1 ∧ K.2 ≤ 28 + wcs (wl ch E p) + wl ch E p + 6 ∧ X1_noMore (rd σ p b 0) (nI n) 12 = some (if n < 12 then (.inl (0, rd σ p b 0), (0, 0)) else (.inr (rd σ (wnd ch E p) (nI (skp ch E p)) 0), K)) := by
  have hE := h.2.1
  have g1 := skp_ge (ch := ch) (E := E) p
  have g2 := skp_le (ch := ch) hp
  have g3 := wnd_ge (ch := ch) (E := E) p
  have g4 := wnd_le (ch := ch) hp
  refine ⟨(4 + wcc (wl ch E p) + 1, 28 + wcs (wl ch E p) + wl ch E p + 6), Nat.le_refl _, Nat.le_refl _, ?_⟩
  unfold X1_noMore
  by_cases c : n < 12
  · rw [if_neg (show ¬ (12 : Int32) ≤ nI n from nI_ge (b := 12) c (by decide)), if_pos c]
  · rw [if_pos (show (12 : Int32) ≤ nI n from nI_le (a := 12) (by omega) (by omega)), if_neg c, X3_word_s h hp, obs, addc_s]
    unfold wC wS
    rw [wlen_rd (by omega) (by omega)]
    rfl
theorem goesOn_s (h : CB σ ch E) {p : Nat} {b : Int32} (hp : p ≤ E) : X1_goesOn (rd σ p b 0) = some (if skp ch E p = E then (.inl (0, rd σ E (nI E) 0), (0, 0)) else if ch (skp ch E p) = 59 then (.inl (1, rd σ (skp ch E p + 1) (nI (skp ch E p)) 0), (0, 0)) else (.inr (rd σ (skp ch E p) (nI (skp ch E p)) 0), (1, 6))) := by
  have g2 := skp_le (ch := ch) hp
  unfold X1_goesOn
  rw [X3_isOver_s h hp, obs]
  by_cases c : skp ch E p = E
  · simp only [decide_eq_true c]
    rw [if_neg (by decide), if_pos c, c]
  · simp only [decide_eq_false c]
    rw [if_pos (by decide), if_neg c, show (59 : Int32) = nI 59 from rfl, X3_sign_s h g2 (by decide), obs, skp_idem]
    by_cases c2 : ch (skp ch E p) = 59
    · have c3 : skp ch E p < E ∧ ch (skp ch E p) = 59 := ⟨by omega, c2⟩
      simp only [decide_eq_true c3, if_pos c3]
      rw [if_neg (by decide), if_pos c2]
    · have c3 : ¬ (skp ch E p < E ∧ ch (skp ch E p) = 59) := fun g => c2 g.2
      simp only [decide_eq_false c3, if_neg c3]
      rw [if_pos (by decide), if_neg c2]
def lawM (τ : Mm) (f : Nat → FcV) : Mm := lnT τ (τ 10 17 + (f 0 (factT τ) - f 1 (factT τ))) (τ 10 18 + f 2 (factT τ))
theorem lsum_up {n : Nat} {ls : Nat → Nat × Int32 × FcV} {i : Nat} {v : Int32} {w : FcV} (k : Nat) (s : Nat → Int32) : lsum (n + 1) (lup ls n (i, v, w)) k s = lsum n ls k s + (if i = k ∧ ¬ w s = 0 then v else 0) := by
  show sumI n (fun j => if (lup ls n (i, v, w) j).1 = k ∧ ¬ (lup ls n (i, v, w) j).2.2 s = 0 then (lup ls n (i, v, w) j).2.1 else 0) + (if (lup ls n (i, v, w) n).1 = k ∧ ¬ (lup ls n (i, v, w) n).2.2 s = 0 then (lup ls n (i, v, w) n).2.1 else 0) = _
  rw [lup_eq, sumI_ext (fun j hj => by rw [lup_lt hj])]
  rfl
theorem asc4 (a b c d e : Int32) : (a + (b - c)) + (d - e) = a + ((b + d) - (c + e)) := by
  simp only [Int32.sub_eq_add_neg, Int32.neg_add]
  ac_rfl
theorem lawM_up {τ : Mm} {n : Nat} {ls : Nat → Nat × Int32 × FcV} {i : Nat} {v : Int32} {w : FcV} (hi : i < 3) : lnT (lawM τ (lsum n ls)) (lawM τ (lsum n ls) 10 17 + dR i v (w (factT (lawM τ (lsum n ls))))) (lawM τ (lsum n ls) 10 18 + dC i v (w (factT (lawM τ (lsum n ls))))) = lawM τ (lsum (n + 1) (lup ls n (i, v, w))) := by
  have ef : factT (lawM τ (lsum n ls)) = factT τ := lnT_fact
  rw [ef]
  unfold lawM
  rw [lnT_17, lnT_18, lnT_lnT, lsum_up, lsum_up, lsum_up]
  have e1 : dR i v (w (factT τ)) = (if i = 0 ∧ ¬ w (factT τ) = 0 then v else 0) - (if i = 1 ∧ ¬ w (factT τ) = 0 then v else 0) := by
    unfold dR
    by_cases c : w (factT τ) = 0
    · rw [if_pos c, if_neg (fun g => g.2 c), if_neg (fun g => g.2 c)]
      rfl
    · rw [if_neg c]
      rcases (show i = 0 ∨ i = 1 ∨ i = 2 by omega) with e | e | e <;> subst e
      · rw [if_pos rfl, if_pos ⟨rfl, c⟩, if_neg (fun g => by cases g.1), Int32.sub_zero]
      · rw [if_neg (by decide), if_pos rfl, if_neg (fun g => by cases g.1), if_pos ⟨rfl, c⟩, Int32.zero_sub]
      · rw [if_neg (by decide), if_neg (by decide), if_neg (fun g => by cases g.1), if_neg (fun g => by cases g.1)]
        rfl
  have e2 : dC i v (w (factT τ)) = (if i = 2 ∧ ¬ w (factT τ) = 0 then v else 0) := by
    unfold dC
    by_cases c : w (factT τ) = 0
    · rw [if_pos c, if_neg (fun g => g.2 c)]
    · rw [if_neg c]
      by_cases e : i = 2
      · rw [if_pos e, if_pos ⟨e, c⟩]
      · rw [if_neg e, if_neg (fun g => e g.1)]
  rw [e1, e2, asc4, Int32.add_assoc]
theorem lawM_Tw {τ : Mm} {f : Nat → FcV} (h : Tw τ ch E) : Tw (lawM τ f) ch E := lnT_Tw h
/-- the reference's way on behind a line -/
theorem T_rd80 {τ : Mm} (h : TB τ ch E) {p n : Nat} (hp : p ≤ E) : X7_read_J23_80 (td τ p (nI 0) (-1)) 1 1 (nI n) = some (.inl (if skp ch E p = E then (td τ E (nI 0) (-1), 0, nI (n + 1)) else if ch (skp ch E p) = 59 then (td τ (skp ch E p + 1) (nI 0) (-1), 1, nI (n + 1)) else (td τ (skp ch E p) (nI 0) (nI (skp ch E p)), 1, nI (n + 1)))) := by
  have hE := h.2.1
  have g2 := skp_le (ch := ch) hp
  unfold X7_read_J23_80
  rw [obs, T_skip h, obs, td_12, if_pos rfl, td_11, td_j (by decide), h.1, nI_1]
  by_cases c : skp ch E p = E
  · rw [if_pos (by rw [c]), if_pos c, c]
  · rw [if_neg (nI_ne (by omega) (by omega) c), if_neg c, show (59 : Int32) = nI 59 from rfl, T_isSign h g2 (by decide), obs, skp_idem]
    by_cases c2 : ch (skp ch E p) = 59
    · have c3 : skp ch E p < E ∧ ch (skp ch E p) = 59 := ⟨by omega, c2⟩
      simp only [decide_eq_true c3]
      rw [if_neg (by decide), if_pos c2, td_11, td_p (nI_1 _), obs]
    · have c3 : ¬ (skp ch E p < E ∧ ch (skp ch E p) = 59) := fun g => c2 g.2
      simp only [decide_eq_false c3]
      rw [if_pos (by decide), if_neg c2, td_11, T_wrong1, obs]
theorem T_rd80F {τ : Mm} (h : TB τ ch E) {p n g : Nat} {dd : Int32} (hp : p ≤ 900) (hg : g ≤ E) : ∃ q, q ≤ 900 ∧ X7_read_J23_80 (td τ p dd (nI g)) 1 1 (nI n) = some (.inl (td τ q dd (nI g), 0, nI (n + 1))) := by
  have hE := h.2.1
  refine ⟨skp ch E p, ?_, ?_⟩
  · by_cases c : p ≤ E
    · have := skp_le (ch := ch) c
      omega
    · rw [skp_far (by omega)]
      exact hp
  · unfold X7_read_J23_80
    rw [obs, T_skip h, obs, td_12, if_neg (nI_nm1 (by omega)), nI_1]
/-- the reference's loop has ended: nothing is left, or it is wrong -/
theorem T_rdE {τ : Mm} {m n : Nat} : loopO (X7_read_L23 1) (m + 1) (τ, 0, nI n) = some (τ, nI n) := loopO_1 (o := .inr (τ, nI n)) (by
  unfold X7_read_L23
  rw [if_pos rfl])
theorem T_rdF {τ : Mm} {p m n g : Nat} {dd go : Int32} (hg : g < 2 ^ 31) : loopO (X7_read_L23 1) (m + 1) (td τ p dd (nI g), go, nI n) = some (td τ p dd (nI g), nI n) := loopO_1 (o := .inr (td τ p dd (nI g), nI n)) (by
  unfold X7_read_L23
  simp only []
  rw [td_12, if_neg (nI_nm1 hg)]
  split <;> rfl)
theorem S_lawL (h : CB σ ch E) : ∀ (r p : Nat) (b : Int32) (n cap : Nat) (ls : Nat → Nat × Int32 × FcV) (m m7 : Nat), p ≤ E → E - p < r → r ≤ m → r + 2 ≤ m7 → cap ≤ 10 + 2 * n → n ≤ 12 → (∀ i, i < n → fExt (ls i).2.2) →
    ∃ out K, X1_lawL m (rd σ p b 0) n cap ls = some (out, K) ∧ ((∃ (f : Nat → FcV) (n' p' : Nat) (b' : Int32), out = .inl ((f, nI n'), rd σ p' b' 0) ∧ (1 ≤ n' ∧ n' ≤ 12) ∧ p + 2 ≤ p' ∧ p' ≤ E ∧ (∀ k, fExt (f k)) ∧ (4 * K.1 ≤ 60 * (p' - p) + 20 ∧ K.2 + 4 * cap ≤ 150 * (p' - p) + 44 + 8 * n) ∧ ∀ τ, Tw τ ch E → loopO (X7_read_L23 1) m7 (td (lawM τ (lsum n ls)) p (nI 0) (-1), 1, nI n) = some (td (lawM τ f) p' (nI 0) (-1), nI n')) ∨ (∃ g p' d' : Nat, out = .inr (rd σ p' (nI g) d') ∧ g ≤ E ∧ (4 * K.1 ≤ 60 * (E - p) + 4050 ∧ K.2 + 4 * cap ≤ 150 * (E - p) + 20200 + 8 * n) ∧ ∀ τ, Tw τ ch E → ∃ (f : Nat → FcV) (n' a : Nat) (dd : Int32), loopO (X7_read_L23 1) m7 (td (lawM τ (lsum n ls)) p (nI 0) (-1), 1, nI n) = some (td (lawM τ f) a dd (nI g), nI n'))) := by
  have hE := h.2.1
  intro r
  induction r with
  | zero => intro p b n cap ls m m7 hp hr; omega
  | succ r ih =>
    intro p b n cap ls m m7 hp hr hm hm7 hcap hn hls
    obtain ⟨m, rfl⟩ : ∃ m', m = m' + 1 := ⟨m - 1, by omega⟩
    obtain ⟨m7, rfl⟩ : ∃ m', m7 = m' + 1 + 1 := ⟨m7 - 2, by omega⟩
    obtain ⟨k1, k2, k3⟩ := cap_s hcap
    obtain ⟨K0, e1, e2, e3⟩ := noMore_s (b := b) h hp hn
    have g1 := skp_ge (ch := ch) (E := E) p
    have g2 := skp_le (ch := ch) hp
    have g3 := wnd_ge (ch := ch) (E := E) p
    have g4 := wnd_le (ch := ch) hp
    have wc := wcost (wl ch E p)
    have hw : wl ch E p = wnd ch E p - skp ch E p := rfl
    have st0 : ∀ τ, Tw τ ch E → X7_read_L23 1 (td (lawM τ (lsum n ls)) p (nI 0) (-1), 1, nI n) = if n < 12 then (X7_lawLine (td (lawM τ (lsum n ls)) (skp ch E p) (nI 0) (-1))).bind fun t70 => X7_read_J23_80 t70 1 1 (nI n) else X7_read_J23_80 (td (lawM τ (lsum n ls)) (skp ch E p) (nI 0) (nI (skp ch E p))) 1 1 (nI n) := by
      intro τ hτ
      unfold X7_read_L23
      simp only []
      rw [if_neg (by decide), td_12, if_pos rfl, T_skip (lawM_Tw hτ).1, obs, if_neg (by decide)]
      unfold X7_read_J23_51
      by_cases c : n < 12
      · rw [if_neg (show ¬ nI n = (12 : Int32) from nI_ne (j := 12) (by omega) (by decide) (by omega)), if_neg (by decide), if_pos c]
      · have : n = 12 := by omega
        subst this
        rw [if_pos (show nI 12 = (12 : Int32) from rfl), td_11, T_wrong1, obs, if_neg c]
    unfold X1_lawL
    rw [e3]
    by_cases c12 : n < 12
    · rw [if_pos c12, bnd_l]
      simp only []
      obtain ⟨out, K, ex, hc⟩ := S_line (b := b) h hp
      rw [ex]
      rcases hc with ⟨i, v, w, p1, b1, rfl, hi, a1, a2, a3, ⟨a4, a5⟩, a6⟩ | ⟨g, p1, d1, rfl, a1, ⟨a2, a3⟩, a4⟩
      · rw [bnd_l]
        simp only []
        rw [if_pos (show cap < 2 ^ 18 by omega), goesOn_s h a2]
        have s1 := skp_ge (ch := ch) (E := E) p1
        have s2 := skp_le (ch := ch) a2
        have s3 := wnd_ge (ch := ch) (E := E) p1
        have s4 := wnd_le (ch := ch) a2
        have hw1 : wl ch E p1 = wnd ch E p1 - skp ch E p1 := rfl
        have ext : ∀ j, j < n + 1 → fExt (lup ls n (i, v, w) j).2.2 := by
          intro j hj
          by_cases e : j = n
          · rw [e, lup_eq]; exact a3
          · rw [lup_lt (by omega)]; exact hls j (by omega)
        have st1 : ∀ τ, Tw τ ch E → X7_read_L23 1 (td (lawM τ (lsum n ls)) p (nI 0) (-1), 1, nI n) = X7_read_J23_80 (td (lawM τ (lsum (n + 1) (lup ls n (i, v, w)))) p1 (nI 0) (-1)) 1 1 (nI n) := by
          intro τ hτ
          rw [st0 τ hτ, if_pos c12, a6 _ (lawM_Tw hτ), obs, lawM_up hi]
        by_cases cE : skp ch E p1 = E
        · rw [if_pos cE, bnd_l]
          simp only [↓reduceIte, addc_s]
          refine ⟨_, _, rfl, Or.inl ⟨_, n + 1, E, _, rfl, ⟨by omega, by omega⟩, by omega, Nat.le_refl _, fun k s s' hs => sumI_ext (fun j hj => by rw [ext j hj s s' hs]), ⟨?_, ?_⟩, fun τ hτ => ?_⟩⟩
          · show 4 * (0 + (K.1 + (acC n cap + (0 + 0)))) ≤ _
            omega
          · show 0 + (K.2 + (acS n cap + (0 + 0))) + 4 * cap ≤ _
            omega
          · rw [loopO_1 ((st1 τ hτ).trans (T_rd80 (lawM_Tw hτ).1 a2)), if_pos cE]
            exact T_rdE
        · rw [if_neg cE]
          by_cases c59 : ch (skp ch E p1) = 59
          · have nw1 : wnd ch E p1 = skp ch E p1 := wnd_no (fun g => by omega)
            rw [if_pos c59, bnd_l]
            simp only []
            rw [if_neg (by decide)]
            obtain ⟨out2, K2, ex2, h2⟩ := ih (skp ch E p1 + 1) (nI (skp ch E p1)) (n + 1) (ncap n cap) (lup ls n (i, v, w)) m (m7 + 1) (by omega) (by omega) (by omega) (by omega) k3 (by omega) ext
            rw [ex2]
            simp only [addc_s]
            refine ⟨_, _, rfl, ?_⟩
            have st2 : ∀ τ, Tw τ ch E → loopO (X7_read_L23 1) (m7 + 1 + 1) (td (lawM τ (lsum n ls)) p (nI 0) (-1), 1, nI n) = loopO (X7_read_L23 1) (m7 + 1) (td (lawM τ (lsum (n + 1) (lup ls n (i, v, w)))) (skp ch E p1 + 1) (nI 0) (-1), 1, nI (n + 1)) := by
              intro τ hτ
              rw [loopO_1 ((st1 τ hτ).trans (T_rd80 (lawM_Tw hτ).1 a2)), if_neg cE, if_pos c59]
              rfl
            rcases h2 with ⟨f, n', p2, b2, rfl, x1, x2, x3, x4, ⟨x5, x6⟩, x7⟩ | ⟨g, p2, d2, rfl, x1, ⟨x2, x3⟩, x4⟩
            · refine Or.inl ⟨f, n', p2, b2, rfl, x1, by omega, x3, x4, ⟨?_, ?_⟩, fun τ hτ => (st2 τ hτ).trans (x7 τ hτ)⟩
              · show 4 * (0 + (K.1 + (acC n cap + (0 + K2.1)))) ≤ _
                omega
              · show 0 + (K.2 + (acS n cap + (0 + K2.2))) + 4 * cap ≤ _
                omega
            · refine Or.inr ⟨g, p2, d2, rfl, x1, ⟨?_, ?_⟩, fun τ hτ => ?_⟩
              · show 4 * (0 + (K.1 + (acC n cap + (0 + K2.1)))) ≤ _
                omega
              · show 0 + (K.2 + (acS n cap + (0 + K2.2))) + 4 * cap ≤ _
                omega
              · obtain ⟨f, n', a, dd, y⟩ := x4 τ hτ
                exact ⟨f, n', a, dd, (st2 τ hτ).trans y⟩
          · rw [if_neg c59, bnd_r]
            simp only [addc_s]
            refine ⟨_, _, rfl, Or.inr ⟨skp ch E p1, _, _, rfl, s2, ⟨?_, ?_⟩, fun τ hτ => ⟨lsum (n + 1) (lup ls n (i, v, w)), n + 1, skp ch E p1, nI 0, ?_⟩⟩⟩
            · show 4 * (0 + (K.1 + (acC n cap + 1))) ≤ _
              omega
            · show 0 + (K.2 + (acS n cap + 6)) + 4 * cap ≤ _
              omega
            · rw [loopO_1 ((st1 τ hτ).trans (T_rd80 (lawM_Tw hτ).1 a2)), if_neg cE, if_neg c59]
              exact T_rdF (by omega)
      · rw [bnd_r]
        simp only [addc_s]
        refine ⟨_, _, rfl, Or.inr ⟨g, p1, d1, rfl, a1, ⟨?_, ?_⟩, fun τ hτ => ?_⟩⟩
        · show 4 * (0 + K.1) ≤ _
          omega
        · show 0 + K.2 + 4 * cap ≤ _
          omega
        · obtain ⟨a, dd, y1, y2⟩ := a4 _ (lawM_Tw (f := lsum n ls) hτ)
          obtain ⟨q, z1, z2⟩ := T_rd80F (lawM_Tw (f := lsum n ls) hτ).1 (n := n) (dd := dd) (show a ≤ 900 by omega) a1
          refine ⟨lsum n ls, n + 1, q, dd, ?_⟩
          rw [loopO_1 (((st0 τ hτ).trans (by rw [if_pos c12, y2, obs])).trans z2)]
          exact T_rdE
    · rw [if_neg c12, bnd_r]
      refine ⟨_, _, rfl, Or.inr ⟨skp ch E p, _, _, rfl, g2, ⟨by omega, by omega⟩, fun τ hτ => ?_⟩⟩
      obtain ⟨q, z1, z2⟩ := T_rd80F (lawM_Tw (f := lsum n ls) hτ).1 (n := n) (dd := nI 0) (show skp ch E p ≤ 900 by omega) g2
      refine ⟨lsum n ls, n + 1, q, nI 0, ?_⟩
      rw [loopO_1 (((st0 τ hτ).trans (if_neg c12)).trans z2)]
      exact T_rdE
theorem lawM_0 {τ : Mm} {ls : Nat → Nat × Int32 × FcV} : lawM τ (lsum 0 ls) = τ := by
  unfold lawM
  rw [show ∀ k s, lsum 0 ls k s = 0 from fun _ _ => rfl, show ∀ k s, lsum 0 ls k s = 0 from fun _ _ => rfl, show ∀ k s, lsum 0 ls k s = 0 from fun _ _ => rfl, Int32.sub_zero, Int32.add_zero, Int32.add_zero, lnT_self]
theorem S_lawText (h : CB σ ch E) (b : Int32) : ∃ out K, X1_lawText (rd σ 0 b 0) = some (out, K) ∧ (4 * K.1 ≤ 60 * E + 4060 ∧ K.2 ≤ 150 * E + 20210) ∧ ((∃ (f : Nat → FcV) (n' p' : Nat) (b' : Int32), out = .inl ((f, nI n'), rd σ p' b' 0) ∧ (n' ≤ 12 ∧ (n' = 0 → f = fun _ _ => 0)) ∧ p' ≤ E ∧ (∀ k, fExt (f k)) ∧ ∀ τ, Tw τ ch E → X7_read (td τ 0 (nI 0) (-1)) 1 = some (nI n', td (lawM τ f) p' (nI 0) (-1))) ∨ (∃ g p' d' : Nat, out = .inr (rd σ p' (nI g) d') ∧ g ≤ E ∧ ∀ τ, Tw τ ch E → ∃ (f : Nat → FcV) (n' a : Nat) (dd : Int32), X7_read (td τ 0 (nI 0) (-1)) 1 = some (nI n', td (lawM τ f) a dd (nI g)))) := by
  have hE := h.2.1
  have g2 := skp_le (ch := ch) (Nat.zero_le E)
  have tw : ∀ τ, Tw τ ch E → X7_read (td τ 0 (nI 0) (-1)) 1 = if skp ch E 0 = E then some (nI 0, td τ E (nI 0) (-1)) else (loopO (X7_read_L23 1) FU (td τ (skp ch E 0) (nI 0) (-1), 1, nI 0)).bind fun e => some (e.2, e.1) := by
    intro τ hτ
    unfold X7_read
    rw [T_skip hτ.1, obs, td_j (by decide), hτ.1.1, td_11]
    by_cases c : skp ch E 0 = E
    · rw [if_pos (nI_le (by omega) (by omega)), if_pos c, c]
      unfold X7_read_J20
      have : loopO (X7_read_L23 1) FU (td τ E (nI 0) (-1), 0, (0 : Int32)) = some (td τ E (nI 0) (-1), 0) := T_rdE (m := 99999) (n := 0)
      rw [this]
      rfl
    · rw [if_neg (nI_ge (by omega) (by omega)), if_neg c]
      rfl
  unfold X1_lawText
  rw [X3_isOver_s h (Nat.zero_le E), obs]
  by_cases c : skp ch E 0 = E
  · simp only [decide_eq_true c]
    rw [if_neg (by decide), addc_s, addc_s]
    refine ⟨_, _, rfl, ⟨by show 4 * (1 + (1 + 0)) ≤ _; omega, by show 1 + (3 + 0) ≤ _; omega⟩, Or.inl ⟨fun _ _ => 0, 0, skp ch E 0, _, rfl, ⟨by decide, fun _ => rfl⟩, g2, fun k s s' _ => rfl, fun τ hτ => ?_⟩⟩
    rw [tw τ hτ, if_pos c, c]
    have : lawM τ (fun _ _ => 0) = τ := lawM_0 (ls := fun _ => (0, 0, fun _ => 0))
    rw [this]
  · simp only [decide_eq_false c]
    rw [if_pos (by decide)]
    obtain ⟨out, K, ex, hc⟩ := S_lawL h (E - skp ch E 0 + 1) (skp ch E 0) (nI (skp ch E 0)) 0 0 (fun _ => (0, 0, fun _ => 0)) FU FU g2 (by omega) (by unfold FU; omega) (by unfold FU; omega) (by omega) (by omega) (fun i hi => by omega)
    rw [ex, addc_s, addc_s]
    refine ⟨_, _, rfl, ?_, ?_⟩
    · rcases hc with ⟨f, n', p', b', rfl, a1, a2, a3, a4, ⟨a5, a6⟩, a7⟩ | ⟨g, p', d', rfl, a1, ⟨a2, a3⟩, a4⟩
      · exact ⟨by show 4 * (1 + (1 + K.1)) ≤ _; omega, by show 1 + (3 + K.2) ≤ _; omega⟩
      · exact ⟨by show 4 * (1 + (1 + K.1)) ≤ _; omega, by show 1 + (3 + K.2) ≤ _; omega⟩
    · rcases hc with ⟨f, n', p', b', rfl, a1, a2, a3, a4, ⟨a5, a6⟩, a7⟩ | ⟨g, p', d', rfl, a1, ⟨a2, a3⟩, a4⟩
      · refine Or.inl ⟨f, n', p', b', rfl, ⟨a1.2, fun e => by have := a1.1; omega⟩, a3, a4, fun τ hτ => ?_⟩
        have := a7 τ hτ
        rw [lawM_0] at this
        rw [tw τ hτ, if_neg c, this]
        rfl
      · refine Or.inr ⟨g, p', d', rfl, a1, fun τ hτ => ?_⟩
        obtain ⟨f, n', a, dd, y⟩ := a4 τ hτ
        rw [lawM_0] at y
        refine ⟨f, n', a, dd, ?_⟩
        rw [tw τ hτ, if_neg c, y]
        rfl
end LTEXT
