/-! PURE: atoms of conditions, both sides -/
section LATOM
variable {σ : Cs} {ch : Nat → Nat} {E : Nat}
theorem wq_le {p i : Nat} (h : wq ch E p i = true) : skp ch E p + lenS.getD i 0 = wnd ch E p := by
  have h1 := wq_wl h
  have h2 := wnd_ge (ch := ch) (E := E) p
  unfold wl at h1
  omega
/-- after a sum: < or > and one more -/
theorem T_plain (h : CB σ ch E) {p d : Nat} (hp : p ≤ E) {τ : Mm} (hτ : Tw τ ch E) (n1 : wq ch E p 24 = false) (n2 : wq ch E p 25 = false) : X7_plain (td τ (skp ch E p) (nI d) (-1)) = (X7_sum (td τ (skp ch E p) (nI d) (-1))).bind fun x => if (x.2 10 12) = -1 then (X7_isSign x.2 60).bind fun y => if y.1 = 0 then (X7_isSign y.2 62).bind fun z => if z.1 = 0 then (X7_wrong z.2 (z.2 10 11)).bind fun t => some (0, t) else X7_plain_J73 z.2 x.1 y.1 else X7_plain_J73 y.2 x.1 y.1 else some (0, x.2) := by
  unfold X7_plain
  rw [T_has' hτ.1 hp 24 (by decide)]
  simp only [obs, n1, if_pos (show b01 false = 0 from rfl), if_neg (show ¬ false = true from by decide)]
  rw [T_has' hτ.1 hp 25 (by decide)]
  simp only [obs, n2, if_pos (show b01 false = 0 from rfl), if_neg (show ¬ false = true from by decide)]
theorem S_atom (h : CB σ ch E) : ∀ (k p d : Nat) (b : Int32), p ≤ E → d ≤ 6 → 7 ≤ k + d → PS σ ch E p d (X1_atom k (rd σ p b d)) (X7_atom (k + 2)) true (401 + k) 2 (fun p' K => 4 * K.1 + 32 ≤ 60 * (p' - p) + 0 * (16 + wl ch E p') ∧ K.2 + 110 ≤ 150 * (p' - p) + 0 * (28 + 5 * wl ch E p')) (fun K => 4 * K.1 ≤ 60 * (E - p) + 4000 ∧ K.2 ≤ 150 * (E - p) + 20000) := by
  have hE := h.2.1
  intro k
  induction k with
  | zero => intro p d b hp hd hk; omega
  | succ k ih =>
    intro p d b hp hd hk
    have s1 := skp_ge (ch := ch) (E := E) p
    have s2 := skp_le (ch := ch) hp
    have s3 := wnd_ge (ch := ch) (E := E) p
    have s4 := wnd_le (ch := ch) hp
    have wc := wcost (wl ch E p)
    have hw : wl ch E p = wnd ch E p - skp ch E p := rfl
    have L400 : wl ch E p ≤ 400 := by omega
    have top : ∀ τ, Tw τ ch E → X7_atom (k + 1 + 2) (td τ p (nI d) (-1)) = if wq ch E p 23 = true then X7_atom_J40 (X7_atom (k + 2)) (td τ (wnd ch E p) (nI d) (-1)) (nI (skp ch E p)) 1 else if skp ch E p < E ∧ ch (skp ch E p) = 40 then X7_atom_J40 (X7_atom (k + 2)) (td τ (skp ch E p) (nI d) (-1)) (nI (skp ch E p)) 0 else (X7_plain (td τ (skp ch E p) (nI d) (-1))).bind fun x => (zb x.1).bind fun _ => some (x.1, x.2) := by
      intro τ hτ
      show X7_atomB (X7_atom (k + 2)) _ = _
      unfold X7_atomB X7_here
      rw [td_12, if_pos rfl, T_skip hτ.1]
      simp only [obs, td_11]
      rw [T_has' hτ.1 hp 23 (by decide)]
      simp only [obs]
      cases e : wq ch E p 23 with
      | true => rw [if_neg (by decide), if_pos rfl, if_pos rfl]; rfl
      | false =>
        rw [if_pos (by decide), if_neg (by decide), if_neg (by decide), show (40 : Int32) = nI 40 from rfl, T_isSign hτ.1 s2 (by decide)]
        simp only [obs, skp_idem]
        by_cases c : skp ch E p < E ∧ ch (skp ch E p) = 40
        · rw [decide_eq_true c, if_neg (by decide), if_pos c]; rfl
        · rw [decide_eq_false c, if_pos (by decide), if_neg c]
    have dq : d = 6 ∨ d < 6 := by omega
    unfold X1_atom
    rw [show (40 : Int32) = nI 40 from rfl, X3_sign_s h hp (by decide)]
    simp only [obs]
    by_cases c40 : skp ch E p < E ∧ ch (skp ch E p) = 40
    · -- in brackets
      have nw : wnd ch E p = skp ch E p := wnd_no (fun g => by omega)
      have n23 : wq ch E p 23 = false := by
        cases e : wq ch E p 23 with
        | false => rfl
        | true =>
          have := wq_le e
          have h3 : lenS.getD 23 0 = 3 := rfl
          omega
      rw [decide_eq_true c40, if_neg (by decide), if_pos c40]
      unfold X3_goesDeeper
      rw [rd_6]
      rcases dq with hd6 | hd6
      · subst hd6
        rw [if_pos (show nI 6 = (6 : Int32) from rfl), bnd_r]
        refine ⟨_, _, rfl, Or.inr ⟨skp ch E p, _, _, rfl, s2, ⟨by show 4 * 1 ≤ _; omega, by show 6 ≤ _; omega⟩, fun τ hτ => ⟨0, skp ch E p, nI 6, fun _ => Or.inl rfl, by omega, ?_⟩⟩⟩
        rw [top τ hτ, n23, if_neg (by decide), if_pos c40]
        unfold X7_atom_J40
        rw [td_13, if_pos (show nI 6 = (6 : Int32) from rfl), T_wrong1]
        rfl
      · rw [if_neg (show ¬ nI d = (6 : Int32) from nI_ne (j := 6) (by omega) (by decide) (by omega)), nI_1, rd_d]
        simp only [obs]
        rw [bnd_l]
        obtain ⟨out, K, ex, hc⟩ := S_row (d := d + 1) (b := nI (skp ch E p)) (p := skp ch E p + 1) h (by omega) (j := 27) (all := 0) (B := 401 + k) (te := 1) (ec := 20) (es := 57) (tc := 4008) (ts := 20045) (by decide) (Or.inl rfl) (by decide) (by decide) (by decide) (fun q b' hq => S_row (d := d + 1) (b := b') (p := q) h hq (j := 26) (all := 1) (B := 401 + k) (te := 0) (ec := 32) (es := 110) (tc := 4000) (ts := 20000) (by decide) (Or.inr rfl) (by decide) (by decide) (by decide) (fun q b' hq => ih q (d + 1) b' hq (by omega) (by omega)))
        rw [ex]
        have t40 : ∀ τ, Tw τ ch E → X7_atom (k + 1 + 2) (td τ p (nI d) (-1)) = (X7_some (X7_atom (k + 2)) (td τ (skp ch E p + 1) (nI (d + 1)) (-1))).bind fun x99 => if (x99.2 10 12) = -1 then (X7_isSign x99.2 41).bind fun x114 => if x114.1 = 0 then (X7_wrong x114.2 (x114.2 10 11)).bind fun t125 => X7_atom_J128 (X7_atom (k + 2)) t125 x99.1 else X7_atom_J128 (X7_atom (k + 2)) x114.2 x99.1 else X7_atom_J128 (X7_atom (k + 2)) x99.2 x99.1 := by
          intro τ hτ
          rw [top τ hτ, n23, if_neg (by decide), if_pos c40]
          unfold X7_atom_J40
          rw [td_13, if_neg (show ¬ nI d = (6 : Int32) from nI_ne (j := 6) (by omega) (by decide) (by omega)), nI_1, td_d]
          rw [obs, if_pos rfl, td_11, td_p (nI_1 _), obs]
        have j128 : ∀ (τ : Mm) (q : Nat) (f v : Int32), z01 v → X7_atom_J128 (X7_atom (k + 2)) (td τ q (nI (d + 1)) f) v = some (v, td τ (q + 1) (nI d) f) := by
          intro τ q f v hv
          unfold X7_atom_J128 X7_atom_J138
          rw [td_11, td_p (nI_1 _)]
          simp only [obs]
          rw [td_13, td_d, show (1 : Int32) = nI 1 from rfl, pk_sub (by omega)]
          simp only [obs, zb_z hv]
          rfl
        rcases hc with ⟨f, p1, b1, rfl, a1, a2, a3, a4, a8, ⟨a5, a6⟩, a7⟩ | ⟨g, p1, d1, rfl, a1, ⟨a2, a3⟩, a4⟩
        · have a8 := a8 rfl
          rw [bnd_l]
          unfold X3_comesUp
          simp only [obs]
          rw [rd_6, show (1 : Int32) = nI 1 from rfl, pk_sub (by omega), show d + 1 - 1 = d by omega, rd_d, show (41 : Int32) = nI 41 from rfl, X3_sign_s h a3 (by decide)]
          simp only [obs]
          have r1 := skp_ge (ch := ch) (E := E) p1
          have r2 := skp_le (ch := ch) a3
          have r3 := wnd_ge (ch := ch) (E := E) p1
          have r4 := wnd_le (ch := ch) a3
          have hw1 : wl ch E p1 = wnd ch E p1 - skp ch E p1 := rfl
          by_cases c41 : skp ch E p1 < E ∧ ch (skp ch E p1) = 41
          · have nw1 : wnd ch E p1 = skp ch E p1 := wnd_no (fun g => by omega)
            rw [decide_eq_true c41, if_neg (by decide), if_pos c41, addc_s, addc_s]
            refine ⟨_, _, rfl, Or.inl ⟨f, _, _, rfl, by omega, by omega, by omega, a4, fun _ => a8, ⟨?_, ?_⟩, fun τ hτ => ?_⟩⟩
            · show 4 * (0 + (K.1 + 0)) + 32 ≤ 60 * (skp ch E p1 + 1 - p) + 0 * _
              omega
            · show 0 + (K.2 + 0) + 110 ≤ 150 * (skp ch E p1 + 1 - p) + 0 * _
              omega
            · have z := fact_z hτ
              rw [t40 τ hτ, some_R, every_R]
              have := a7 τ hτ
              rw [if_pos (show (1 : Int32) = 1 from rfl), if_neg (show ¬ (0 : Int32) = 1 by decide)] at this
              rw [this]
              simp only [obs]
              rw [td_12, if_pos rfl, show (41 : Int32) = nI 41 from rfl, T_isSign hτ.1 a3 (by decide)]
              simp only [obs]
              rw [decide_eq_true c41, if_neg (by decide), j128 _ _ _ _ (a8 _ z.1 z.2)]
          · rw [decide_eq_false c41, if_pos (by decide), if_neg c41, addc_s, addc_s]
            refine ⟨_, _, rfl, Or.inr ⟨skp ch E p1, _, _, rfl, r2, ⟨?_, ?_⟩, fun τ hτ => ?_⟩⟩
            · show 4 * (0 + (K.1 + 1)) ≤ 60 * (E - p) + 4000
              omega
            · show 0 + (K.2 + 6) ≤ 150 * (E - p) + 20000
              omega
            · have z := fact_z hτ
              refine ⟨f (factT τ), skp ch E p1 + 1, nI d, fun _ => a8 _ z.1 z.2, by omega, ?_⟩
              rw [t40 τ hτ, some_R, every_R]
              have := a7 τ hτ
              rw [if_pos (show (1 : Int32) = 1 from rfl), if_neg (show ¬ (0 : Int32) = 1 by decide)] at this
              rw [this]
              simp only [obs]
              rw [td_12, if_pos rfl, show (41 : Int32) = nI 41 from rfl, T_isSign hτ.1 a3 (by decide)]
              simp only [obs]
              rw [decide_eq_false c41, if_pos (by decide), td_11, T_wrong1]
              simp only [obs]
              rw [j128 _ _ _ _ (a8 _ z.1 z.2)]
        · rw [bnd_r, addc_s]
          refine ⟨_, _, rfl, Or.inr ⟨g, p1, d1, rfl, a1, ⟨?_, ?_⟩, fun τ hτ => ?_⟩⟩
          · show 4 * (0 + K.1) ≤ 60 * (E - p) + 4000
            omega
          · show 0 + K.2 ≤ 150 * (E - p) + 20000
            omega
          · obtain ⟨v, a, dd, z, e3, e4⟩ := a4 τ hτ
            refine ⟨v, a + 1, dd - 1, z, by omega, ?_⟩
            rw [t40 τ hτ, some_R, every_R]
            rw [if_pos (show (1 : Int32) = 1 from rfl), if_neg (show ¬ (0 : Int32) = 1 by decide)] at e4
            rw [e4]
            simp only [obs]
            rw [td_12, if_neg (nI_nm1 (by omega))]
            unfold X7_atom_J128 X7_atom_J138
            rw [td_11, td_p (nI_1 _)]
            simp only [obs]
            rw [td_13, td_d]
            simp only [zb_z (z rfl), obs]
    · rw [decide_eq_false c40, if_pos (by decide), if_neg c40]
      obtain ⟨K1, e1, ek1⟩ := X3_passes_s (b := nI (skp ch E p)) (d := d) h s2 23
      rw [wnd_skp, skp_idem] at ek1
      rw [wq_skp] at e1
      rw [wnd_skp, skp_idem] at e1
      rw [e1, bnd_l]
      have hK1 : 4 * K1.1 ≤ 16 + wl ch E p ∧ K1.2 ≤ 28 + 5 * wl ch E p := by rw [ek1]; exact ⟨wc.1, wc.2⟩
      cases e23 : wq ch E p 23 with
      | true =>
        have hl := wq_le e23
        have hl3 : lenS.getD 23 0 = 3 := rfl
        have hwl := wq_wl e23
        simp only [↓reduceIte]
        rw [if_neg (by decide)]
        unfold X3_goesDeeper
        rw [rd_6]
        rcases dq with hd6 | hd6
        · subst hd6
          rw [if_pos (show nI 6 = (6 : Int32) from rfl), bnd_r, addc_s]
          refine ⟨_, _, rfl, Or.inr ⟨skp ch E p, _, _, rfl, s2, ⟨?_, ?_⟩, fun τ hτ => ⟨0, wnd ch E p, nI 6, fun _ => Or.inl rfl, by omega, ?_⟩⟩⟩
          · show 4 * (K1.1 + 1) ≤ _
            omega
          · show K1.2 + 6 ≤ _
            omega
          · rw [top τ hτ, e23, if_pos rfl]
            unfold X7_atom_J40
            rw [td_13, if_pos (show nI 6 = (6 : Int32) from rfl), T_wrong1]
            rfl
        · rw [if_neg (show ¬ nI d = (6 : Int32) from nI_ne (j := 6) (by omega) (by decide) (by omega)), nI_1, rd_d]
          simp only [obs]
          rw [bnd_l]
          obtain ⟨out, K, ex, hc⟩ := ih (wnd ch E p) (d + 1) (nI (skp ch E p)) s4 (by omega) (by omega)
          rw [ex]
          have t23 : ∀ τ, Tw τ ch E → X7_atom (k + 1 + 2) (td τ p (nI d) (-1)) = (X7_atom (k + 2) (td τ (wnd ch E p) (nI (d + 1)) (-1))).bind fun x73 => if x73.1 = 0 then X7_atom_J84 (X7_atom (k + 2)) x73.2 1 else X7_atom_J84 (X7_atom (k + 2)) x73.2 0 := by
            intro τ hτ
            rw [top τ hτ, e23, if_pos rfl]
            unfold X7_atom_J40
            rw [td_13, if_neg (show ¬ nI d = (6 : Int32) from nI_ne (j := 6) (by omega) (by decide) (by omega)), nI_1, td_d]
            simp only [obs]
            rw [if_neg (by decide)]
          rcases hc with ⟨f, p1, b1, rfl, a1, a2, a3, a4, a8, ⟨a5, a6⟩, a7⟩ | ⟨g, p1, d1, rfl, a1, ⟨a2, a3⟩, a4⟩
          · have a8 := a8 rfl
            rw [bnd_l]
            unfold X3_comesUp
            simp only [obs]
            rw [rd_6, show (1 : Int32) = nI 1 from rfl, pk_sub (by omega), show d + 1 - 1 = d by omega, rd_d]
            rw [addc_s, addc_s, addc_s, addc_s]
            refine ⟨_, _, rfl, Or.inl ⟨_, p1, b1, rfl, by omega, by omega, a3, fun s s' hs => (by show (if f s = 0 then (1 : Int32) else 0) = if f s' = 0 then 1 else 0; rw [a4 s s' hs]), fun _ s z1 z2 => (by show z01 (if f s = 0 then (1 : Int32) else 0); split; exact Or.inr rfl; exact Or.inl rfl), ⟨?_, ?_⟩, fun τ hτ => ?_⟩⟩
            · show 4 * (K1.1 + (0 + (K.1 + (1 + 0)))) + 32 ≤ 60 * (p1 - p) + 0 * _
              omega
            · show K1.2 + (0 + (K.2 + (1 + 0))) + 110 ≤ 150 * (p1 - p) + 0 * _
              omega
            · rw [t23 τ hτ, a7 τ hτ]
              simp only [obs]
              unfold X7_atom_J84 X7_atom_J138
              rw [td_13, td_d, show (1 : Int32) = nI 1 from rfl, pk_sub (by omega), show d + 1 - 1 = d by omega]
              by_cases c : f (factT τ) = 0
              · rw [if_pos c, if_pos c]; rfl
              · rw [if_neg c, if_neg c]; rfl
          · rw [bnd_r, addc_s, addc_s]
            refine ⟨_, _, rfl, Or.inr ⟨g, p1, d1, rfl, a1, ⟨?_, ?_⟩, fun τ hτ => ?_⟩⟩
            · show 4 * (K1.1 + (0 + K.1)) ≤ 60 * (E - p) + 4000
              omega
            · show K1.2 + (0 + K.2) ≤ 150 * (E - p) + 20000
              omega
            · obtain ⟨v, a, dd, z, e3, e4⟩ := a4 τ hτ
              refine ⟨if v = 0 then 1 else 0, a, dd - 1, fun _ => by (split; exact Or.inr rfl; exact Or.inl rfl), by omega, ?_⟩
              rw [t23 τ hτ, e4]
              simp only [obs]
              unfold X7_atom_J84 X7_atom_J138
              rw [td_13, td_d]
              by_cases c : v = 0
              · rw [if_pos c, if_pos c]; rfl
              · rw [if_neg c, if_neg c]; rfl
      | false =>
        simp only [↓reduceIte, Bool.false_eq_true]
        rw [if_pos (by decide)]
        obtain ⟨K2, e2, ek2⟩ := X3_passes_s (b := nI (skp ch E p)) (d := d) h s2 24
        rw [wnd_skp, skp_idem] at ek2
        rw [wq_skp] at e2
        rw [wnd_skp, skp_idem] at e2
        rw [e2, bnd_l]
        have hK2 : 4 * K2.1 ≤ 16 + wl ch E p ∧ K2.2 ≤ 28 + 5 * wl ch E p := by rw [ek2]; exact ⟨wc.1, wc.2⟩
        have pl : ∀ τ, Tw τ ch E → X7_atom (k + 1 + 2) (td τ p (nI d) (-1)) = (X7_plain (td τ (skp ch E p) (nI d) (-1))).bind fun x => (zb x.1).bind fun _ => some (x.1, x.2) := fun τ hτ => by rw [top τ hτ, e23, if_neg (by decide), if_neg c40]
        cases e24 : wq ch E p 24 with
        | true =>
          have hl := wq_le e24
          have hl3 : lenS.getD 24 0 = 7 := rfl
          have hwl := wq_wl e24
          simp only [↓reduceIte]
          rw [if_neg (by decide), addc_s, addc_s, addc_s]
          refine ⟨_, _, rfl, Or.inl ⟨_, wnd ch E p, _, rfl, by omega, Nat.le_refl _, s4, fun s s' hs => hs 7 (by decide), fun _ s z1 z2 => z1, ⟨?_, ?_⟩, fun τ hτ => ?_⟩⟩
          · show 4 * (K1.1 + (K2.1 + (1 + 0))) + 32 ≤ 60 * (wnd ch E p - p) + 0 * _
            omega
          · show K1.2 + (K2.2 + (1 + 0)) + 110 ≤ 150 * (wnd ch E p - p) + 0 * _
            omega
          · rw [pl τ hτ]
            unfold X7_plain
            rw [T_has' hτ.1 hp 24 (by decide)]
            simp only [obs, e24, if_pos (show true = true from rfl), if_neg (show ¬ b01 true = 0 from by decide)]
            rw [td_j (by decide), zb_z hτ.2.1]
            simp only [obs]
            rw [zb_z hτ.2.1]
            rfl
        | false =>
          simp only [↓reduceIte, Bool.false_eq_true]
          rw [if_pos (by decide)]
          obtain ⟨K3, e3, ek3⟩ := X3_passes_s (b := nI (skp ch E p)) (d := d) h s2 25
          rw [wnd_skp, skp_idem] at ek3
          rw [wq_skp] at e3
          rw [wnd_skp, skp_idem] at e3
          rw [e3, bnd_l]
          have hK3 : 4 * K3.1 ≤ 16 + wl ch E p ∧ K3.2 ≤ 28 + 5 * wl ch E p := by rw [ek3]; exact ⟨wc.1, wc.2⟩
          cases e25 : wq ch E p 25 with
          | true =>
            have hl := wq_le e25
            have hl3 : lenS.getD 25 0 = 6 := rfl
            have hwl := wq_wl e25
            simp only [↓reduceIte]
            rw [if_neg (by decide), addc_s, addc_s, addc_s, addc_s]
            refine ⟨_, _, rfl, Or.inl ⟨_, wnd ch E p, _, rfl, by omega, Nat.le_refl _, s4, fun s s' hs => hs 8 (by decide), fun _ s z1 z2 => z2, ⟨?_, ?_⟩, fun τ hτ => ?_⟩⟩
            · show 4 * (K1.1 + (K2.1 + (K3.1 + (1 + 0)))) + 32 ≤ 60 * (wnd ch E p - p) + 0 * _
              omega
            · show K1.2 + (K2.2 + (K3.2 + (1 + 0))) + 110 ≤ 150 * (wnd ch E p - p) + 0 * _
              omega
            · rw [pl τ hτ]
              unfold X7_plain
              rw [T_has' hτ.1 hp 24 (by decide)]
              simp only [obs, e24, if_pos (show b01 false = 0 from rfl), if_neg (show ¬ false = true from by decide)]
              rw [T_has' hτ.1 hp 25 (by decide)]
              simp only [obs, e25, if_pos (show true = true from rfl), if_neg (show ¬ b01 true = 0 from by decide)]
              rw [td_j (by decide), zb_z hτ.2.2]
              simp only [obs]
              rw [zb_z hτ.2.2]
              rfl
          | false =>
            simp only [↓reduceIte, Bool.false_eq_true]
            rw [if_pos (by decide)]
            obtain ⟨out, K, ex, hc⟩ := S_sum (b := nI (skp ch E p)) (d := d) h s2
            rw [ex]
            have pl2 : ∀ τ, Tw τ ch E → _ := fun τ hτ => (pl τ hτ).trans (by rw [T_plain h hp hτ e24 e25])
            rcases hc with ⟨f, p1, b1, rfl, a1, a2, a3, a4, -, ⟨a5, a6⟩, a7⟩ | ⟨g, p1, d1, rfl, a1, ⟨a2, a3⟩, a4⟩
            · rw [wnd_skp] at a2
              rw [bnd_l]
              simp only []
              rw [show (60 : Int32) = nI 60 from rfl, X3_sign_s h a3 (by decide)]
              simp only [obs]
              have r1 := skp_ge (ch := ch) (E := E) p1
              have r2 := skp_le (ch := ch) a3
              have fin : ∀ (less : Bool) (c0 : Nat), c0 = skp ch E p1 → c0 < E → ∀ (X : Option (FcP × Kc)), X = addc (1, 2) (bnd (X1_sum (rd σ (c0 + 1) (nI (skp ch E p1)) d)) fun b => some (.inl ((if less = true then (fun s => if f s < b.1 s then 1 else 0) else (fun s => if b.1 s < f s then 1 else 0)), b.2), (0, 0))) → (∀ τ, Tw τ ch E → X7_atom (k + 1 + 2) (td τ p (nI d) (-1)) = (X7_plain_J73 (td τ c0 (nI d) (-1)) (f (factT τ)) (b01 less)).bind fun x => (zb x.1).bind fun _ => some (x.1, x.2)) → ∃ out0 K0, addc K1 (addc K2 (addc K3 (addc K X))) = some (out0, K0) ∧ ((∃ (f : FcV) (p' : Nat) (b' : Int32), out0 = .inl (f, rd σ p' b' d) ∧ p + 2 ≤ p' ∧ wnd ch E p ≤ p' ∧ p' ≤ E ∧ fExt f ∧ (true = true → f01 f) ∧ (4 * K0.1 + 32 ≤ 60 * (p' - p) + 0 * (16 + wl ch E p') ∧ K0.2 + 110 ≤ 150 * (p' - p) + 0 * (28 + 5 * wl ch E p')) ∧ ∀ τ, Tw τ ch E → X7_atom (k + 1 + 2) (td τ p (nI d) (-1)) = some (f (factT τ), td τ p' (nI d) (-1))) ∨ (∃ g p' d' : Nat, out0 = .inr (rd σ p' (nI g) d') ∧ g ≤ E ∧ (4 * K0.1 ≤ 60 * (E - p) + 4000 ∧ K0.2 ≤ 150 * (E - p) + 20000) ∧ ∀ τ, Tw τ ch E → ∃ (v : Int32) (a : Nat) (dd : Int32), (true = true → z01 v) ∧ a ≤ 401 + (k + 1) ∧ X7_atom (k + 1 + 2) (td τ p (nI d) (-1)) = some (v, td τ a dd (nI g)))) := by
                intro less c0 hc0 hc1 X hX tw9
                obtain ⟨out2, Kb, ex2, hc2⟩ := S_sum (b := nI (skp ch E p1)) (d := d) (p := c0 + 1) h (by omega)
                have j73 : ∀ τ, X7_plain_J73 (td τ c0 (nI d) (-1)) (f (factT τ)) (b01 less) = (X7_sum (td τ (c0 + 1) (nI d) (-1))).bind fun x84 => if b01 less = 0 then if f (factT τ) ≤ x84.1 then some (0, x84.2) else some (1, x84.2) else if x84.1 ≤ f (factT τ) then some (0, x84.2) else some (1, x84.2) := by
                  intro τ
                  unfold X7_plain_J73
                  rw [td_11, td_p (nI_1 _)]
                  simp only [obs]
                rw [hX, ex2]
                rcases hc2 with ⟨f2, p2, b2, rfl, x1, x2, x3, x4, -, ⟨x5, x6⟩, x7⟩ | ⟨g, p2, d2, rfl, x1, ⟨x2, x3⟩, x4⟩
                · rw [bnd_l]
                  simp only [addc_s]
                  refine ⟨_, _, rfl, Or.inl ⟨_, p2, b2, rfl, by omega, by omega, x3, ?_, ?_, ⟨?_, ?_⟩, fun τ hτ => ?_⟩⟩
                  · intro s s' hs
                    cases less
                    · show (if f2 s < f s then (1 : Int32) else 0) = if f2 s' < f s' then 1 else 0
                      rw [a4 s s' hs, x4 s s' hs]
                    · show (if f s < f2 s then (1 : Int32) else 0) = if f s' < f2 s' then 1 else 0
                      rw [a4 s s' hs, x4 s s' hs]
                  · intro _ s _ _
                    cases less
                    · show z01 (if f2 s < f s then (1 : Int32) else 0)
                      split
                      · exact Or.inr rfl
                      · exact Or.inl rfl
                    · show z01 (if f s < f2 s then (1 : Int32) else 0)
                      split
                      · exact Or.inr rfl
                      · exact Or.inl rfl
                  · show 4 * (K1.1 + (K2.1 + (K3.1 + (K.1 + (1 + (Kb.1 + 0)))))) + 32 ≤ 60 * (p2 - p) + 0 * _
                    omega
                  · show K1.2 + (K2.2 + (K3.2 + (K.2 + (2 + (Kb.2 + 0))))) + 110 ≤ 150 * (p2 - p) + 0 * _
                    omega
                  · rw [tw9 τ hτ, j73, x7 τ hτ]
                    simp only [obs]
                    cases less
                    · rw [if_pos (show b01 false = 0 from rfl)]
                      by_cases c : f2 (factT τ) < f (factT τ)
                      · rw [if_neg (Int32.not_le.mpr c)]
                        show some _ = some _
                        simp [c]
                      · rw [if_pos (Int32.not_lt.mp c)]
                        show some _ = some _
                        simp [c]
                    · rw [if_neg (show ¬ b01 true = 0 from by decide)]
                      by_cases c : f (factT τ) < f2 (factT τ)
                      · rw [if_neg (Int32.not_le.mpr c)]
                        show some _ = some _
                        simp [c]
                      · rw [if_pos (Int32.not_lt.mp c)]
                        show some _ = some _
                        simp [c]
                · rw [bnd_r]
                  simp only [addc_s]
                  refine ⟨_, _, rfl, Or.inr ⟨g, p2, d2, rfl, x1, ⟨?_, ?_⟩, fun τ hτ => ?_⟩⟩
                  · show 4 * (K1.1 + (K2.1 + (K3.1 + (K.1 + (1 + Kb.1))))) ≤ 60 * (E - p) + 4000
                    omega
                  · show K1.2 + (K2.2 + (K3.2 + (K.2 + (2 + Kb.2)))) ≤ 150 * (E - p) + 20000
                    omega
                  · obtain ⟨v, a, dd, -, y1, y2⟩ := x4 τ hτ
                    have : ∃ v', z01 v' ∧ (if b01 less = 0 then if f (factT τ) ≤ v then some ((0 : Int32), td τ a dd (nI g)) else some (1, td τ a dd (nI g)) else if v ≤ f (factT τ) then some (0, td τ a dd (nI g)) else some (1, td τ a dd (nI g))) = some (v', td τ a dd (nI g)) := by
                      split
                      · split
                        · exact ⟨0, Or.inl rfl, rfl⟩
                        · exact ⟨1, Or.inr rfl, rfl⟩
                      · split
                        · exact ⟨0, Or.inl rfl, rfl⟩
                        · exact ⟨1, Or.inr rfl, rfl⟩
                    obtain ⟨v', z', ev⟩ := this
                    refine ⟨v', a, dd, fun _ => z', by omega, ?_⟩
                    rw [tw9 τ hτ, j73, y2]
                    simp only [obs]
                    rw [ev]
                    simp only [obs, zb_z z']
              have pl3 : ∀ τ, Tw τ ch E → X7_atom (k + 1 + 2) (td τ p (nI d) (-1)) = (if skp ch E p1 < E ∧ ch (skp ch E p1) = 60 then X7_plain_J73 (td τ (skp ch E p1) (nI d) (-1)) (f (factT τ)) 1 else if skp ch E p1 < E ∧ ch (skp ch E p1) = 62 then X7_plain_J73 (td τ (skp ch E p1) (nI d) (-1)) (f (factT τ)) 0 else some (0, td τ (skp ch E p1) (nI d) (nI (skp ch E p1)))).bind fun x => (zb x.1).bind fun _ => some (x.1, x.2) := by
                intro τ hτ
                rw [pl τ hτ, T_plain h hp hτ e24 e25, a7 τ hτ]
                simp only [obs]
                rw [td_12, if_pos rfl, show (60 : Int32) = nI 60 from rfl, T_isSign hτ.1 a3 (by decide)]
                simp only [obs]
                by_cases c60 : skp ch E p1 < E ∧ ch (skp ch E p1) = 60
                · rw [decide_eq_true c60, if_neg (by decide), if_pos c60]
                  rfl
                · rw [decide_eq_false c60, if_pos (by decide), if_neg c60, show (62 : Int32) = nI 62 from rfl, T_isSign hτ.1 r2 (by decide)]
                  simp only [obs, skp_idem]
                  by_cases c62 : skp ch E p1 < E ∧ ch (skp ch E p1) = 62
                  · rw [decide_eq_true c62, if_neg (by decide), if_pos c62]
                    rfl
                  · rw [decide_eq_false c62, if_pos (by decide), if_neg c62, td_11, T_wrong1]
                    rfl
              by_cases c60 : skp ch E p1 < E ∧ ch (skp ch E p1) = 60
              · rw [decide_eq_true c60, if_neg (by decide), if_pos c60]
                refine fin true (skp ch E p1) rfl c60.1 _ rfl (fun τ hτ => ?_)
                rw [pl3 τ hτ, if_pos c60]
                rfl
              · rw [decide_eq_false c60, if_pos (by decide), if_neg c60, show (62 : Int32) = nI 62 from rfl, X3_sign_s h r2 (by decide)]
                simp only [obs, skp_idem]
                by_cases c62 : skp ch E p1 < E ∧ ch (skp ch E p1) = 62
                · rw [decide_eq_true c62, if_neg (by decide), if_pos c62]
                  refine fin false (skp ch E p1) rfl c62.1 _ rfl (fun τ hτ => ?_)
                  rw [pl3 τ hτ, if_neg c60, if_pos c62]
                  rfl
                · rw [decide_eq_false c62, if_pos (by decide), if_neg c62]
                  simp only [addc_s]
                  refine ⟨_, _, rfl, Or.inr ⟨skp ch E p1, _, _, rfl, r2, ⟨?_, ?_⟩, fun τ hτ => ⟨0, skp ch E p1, nI d, fun _ => Or.inl rfl, by omega, ?_⟩⟩⟩
                  · show 4 * (K1.1 + (K2.1 + (K3.1 + (K.1 + 1)))) ≤ 60 * (E - p) + 4000
                    omega
                  · show K1.2 + (K2.2 + (K3.2 + (K.2 + 6))) ≤ 150 * (E - p) + 20000
                    omega
                  · rw [pl3 τ hτ, if_neg c60, if_neg c62]
                    rfl
            · rw [bnd_r]
              simp only [addc_s]
              refine ⟨_, _, rfl, Or.inr ⟨g, p1, d1, rfl, a1, ⟨?_, ?_⟩, fun τ hτ => ?_⟩⟩
              · show 4 * (K1.1 + (K2.1 + (K3.1 + K.1))) ≤ 60 * (E - p) + 4000
                omega
              · show K1.2 + (K2.2 + (K3.2 + K.2)) ≤ 150 * (E - p) + 20000
                omega
              · obtain ⟨v, a, dd, -, y1, y2⟩ := a4 τ hτ
                refine ⟨0, a, dd, fun _ => Or.inl rfl, by omega, ?_⟩
                rw [pl τ hτ, T_plain h hp hτ e24 e25, y2]
                simp only [obs]
                rw [td_12, if_neg (nI_nm1 (by omega))]
                rfl
end LATOM
