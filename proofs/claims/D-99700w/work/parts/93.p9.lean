/-! PURE: sums, rows of conditions, both sides -/
theorem cap_s {n cap : Nat} (h : cap ≤ 10 + 2 * n) : acC n cap ≤ 1 ∧ acS n cap + 4 * cap ≤ 4 * ncap n cap ∧ ncap n cap ≤ 10 + 2 * (n + 1) := by
  unfold acC acS ncap gcap
  split
  · split
    · omega
    · split <;> omega
  · omega
theorem loopO_1 {S X : Type} {step : S → Option (S ⊕ X)} {n : Nat} {s : S} {o : S ⊕ X} (e : step s = some o) : loopO step (n + 1) s = Sum.elim (fun s' => loopO step n s') (fun e => some e) o := by
  show (step s).bind _ = _
  rw [e]
  rfl
section LSUM
variable {σ : Cs} {ch : Nat → Nat} {E : Nat}
theorem wl_skp (p : Nat) : wl ch E (skp ch E p) = wl ch E p := by
  unfold wl
  rw [wnd_skp, skp_idem]
theorem fExt_sumI {gs : Nat → FcV} {n : Nat} (h : ∀ i, i < n → fExt (gs i)) : fExt (fun s => sumI n (fun i => gs i s)) := fun s s' hs => sumI_ext (fun i hi => h i hi s s' hs)
theorem gup_all {P : FcV → Prop} {gs : Nat → FcV} {n : Nat} {g : FcV} (h : ∀ i, i < n → P (gs i)) (hg : P g) : ∀ i, i < n + 1 → P (gup gs n g i) := by
  intro i hi
  by_cases e : i = n
  · rw [e, gup_eq]; exact hg
  · rw [gup_lt (by omega)]; exact h i (by omega)
theorem sumI_gup {gs : Nat → FcV} {n : Nat} {g : FcV} (s : Nat → Int32) : sumI (n + 1) (fun i => gup gs n g i s) = sumI n (fun i => gs i s) + g s := by
  show sumI n (fun i => gup gs n g i s) + gup gs n g n s = _
  rw [gup_eq, sumI_ext (fun i hi => by rw [gup_lt hi])]
theorem S_sumL (h : CB σ ch E) {d : Nat} : ∀ (r p : Nat) (b : Int32) (n cap : Nat) (gs : Nat → FcV) (m m7 : Nat), p ≤ E → E - p < r → r ≤ m → r ≤ m7 → cap ≤ 10 + 2 * n → n + (E - p) ≤ 400 → (∀ i, i < n → fExt (gs i)) →
    ∃ out K, X1_sumL m (rd σ p b d) n cap gs = some (out, K) ∧ ((∃ (f : FcV) (p' : Nat) (b' : Int32), out = .inl (f, rd σ p' b' d) ∧ p + 1 ≤ p' ∧ wnd ch E p ≤ p' ∧ p' ≤ E ∧ fExt f ∧ (4 * K.1 ≤ 13 * (p' - p) ∧ K.2 + 4 * cap ≤ 26 * (p' - p) + 40 + 8 * n) ∧ ∀ τ, Tw τ ch E → (X7_part (td τ p (nI d) (-1))).bind (fun x => loopO X7_sum_L5 m7 (x.2, sumI n (fun i => gs i (factT τ)) + x.1)) = some (td τ p' (nI d) (-1), f (factT τ))) ∨ (∃ g p' d' : Nat, out = .inr (rd σ p' (nI g) d') ∧ g ≤ E ∧ (4 * K.1 ≤ 13 * (E - p) + 440 ∧ K.2 + 4 * cap ≤ 26 * (E - p) + 2090 + 8 * n) ∧ ∀ τ, Tw τ ch E → ∃ (v : Int32) (a : Nat) (dd : Int32), a ≤ 400 ∧ (X7_part (td τ p (nI d) (-1))).bind (fun x => loopO X7_sum_L5 m7 (x.2, sumI n (fun i => gs i (factT τ)) + x.1)) = some (td τ a dd (nI g), v))) := by
  have hE := h.2.1
  intro r
  induction r with
  | zero => intro p b n cap gs m m7 hp hr; omega
  | succ r ih =>
    intro p b n cap gs m m7 hp hr hm hm7 hcap hn hgs
    obtain ⟨m, rfl⟩ : ∃ m', m = m' + 1 := ⟨m - 1, by omega⟩
    obtain ⟨m7, rfl⟩ : ∃ m', m7 = m' + 1 := ⟨m7 - 1, by omega⟩
    obtain ⟨out, K, ex, hc⟩ := S_part (b := b) (d := d) h hp
    obtain ⟨k1, k2, k3⟩ := cap_s hcap
    unfold X1_sumL
    rw [ex]
    rcases hc with ⟨f, p1, b1, rfl, a1, a2, a3, a4, -, ⟨a5, a6⟩, a7⟩ | ⟨g, p1, d1, rfl, a1, ⟨a2, a3⟩, a4⟩
    · rw [bnd_l]
      simp only []
      rw [if_pos (show cap < 2 ^ 18 by omega), show (43 : Int32) = nI 43 from rfl, X3_sign_s h a3 (by decide)]
      simp only [obs]
      have s1 := skp_ge (ch := ch) (E := E) p1
      have s2 := skp_le (ch := ch) a3
      have tw : ∀ τ, Tw τ ch E → ∀ acc : Int32, X7_sum_L5 (td τ p1 (nI d) (-1), acc) = (if skp ch E p1 < E ∧ ch (skp ch E p1) = 43 then (X7_part (td τ (skp ch E p1 + 1) (nI d) (-1))).bind (fun x => some (.inl (x.2, acc + x.1))) else some (.inr (td τ (skp ch E p1) (nI d) (-1), acc))) := by
        intro τ hτ acc
        unfold X7_sum_L5
        simp only []
        rw [td_12, if_pos rfl, show (43 : Int32) = nI 43 from rfl, T_isSign hτ.1 a3 (by decide)]
        simp only [obs]
        by_cases c : skp ch E p1 < E ∧ ch (skp ch E p1) = 43
        · rw [decide_eq_true c, if_neg (by decide), if_pos c, td_11, td_p (nI_1 _)]
        · rw [decide_eq_false c, if_pos (by decide), if_neg c]
      by_cases c : skp ch E p1 < E ∧ ch (skp ch E p1) = 43
      · rw [decide_eq_true c, if_neg (by decide), if_pos c]
        obtain ⟨out2, K2, e2, h2⟩ := ih (skp ch E p1 + 1) (nI (skp ch E p1)) (n + 1) (ncap n cap) (gup gs n f) m m7 (by omega) (by omega) (by omega) (by omega) k3 (by omega) (gup_all hgs a4)
        rw [e2, addc_s, addc_s]
        refine ⟨_, _, rfl, ?_⟩
        rcases h2 with ⟨f2, p2, b2, rfl, c1, c2, c3, c4, ⟨c5, c6⟩, c7⟩ | ⟨g, p2, d2, rfl, c1, ⟨c2, c3⟩, c4⟩
        · refine Or.inl ⟨f2, p2, b2, rfl, by omega, by omega, c3, c4, ⟨?_, ?_⟩, fun τ hτ => ?_⟩
          · show 4 * (K.1 + (acC n cap + K2.1)) ≤ 13 * (p2 - p)
            omega
          · show K.2 + (acS n cap + K2.2) + 4 * cap ≤ 26 * (p2 - p) + 40 + 8 * n
            omega
          · rw [a7 τ hτ]
            simp only [obs]
            have := c7 τ hτ
            rw [sumI_gup] at this
            rw [← this]
            show (X7_sum_L5 _).bind _ = _
            rw [tw τ hτ, if_pos c]
            cases X7_part (td τ (skp ch E p1 + 1) (nI d) (-1)) <;> rfl
        · refine Or.inr ⟨g, p2, d2, rfl, c1, ⟨?_, ?_⟩, fun τ hτ => ?_⟩
          · show 4 * (K.1 + (acC n cap + K2.1)) ≤ 13 * (E - p) + 440
            omega
          · show K.2 + (acS n cap + K2.2) + 4 * cap ≤ 26 * (E - p) + 2090 + 8 * n
            omega
          · obtain ⟨v, a, dd, e3, e4⟩ := c4 τ hτ
            refine ⟨v, a, dd, e3, ?_⟩
            rw [a7 τ hτ]
            simp only [obs]
            rw [sumI_gup] at e4
            rw [← e4]
            show (X7_sum_L5 _).bind _ = _
            rw [tw τ hτ, if_pos c]
            cases X7_part (td τ (skp ch E p1 + 1) (nI d) (-1)) <;> rfl
      · rw [decide_eq_false c, if_pos (by decide), if_neg c, addc_s, addc_s]
        refine ⟨_, _, rfl, Or.inl ⟨_, _, _, rfl, by omega, by omega, s2, fExt_sumI (gup_all hgs a4), ⟨?_, ?_⟩, fun τ hτ => ?_⟩⟩
        · show 4 * (K.1 + (acC n cap + 0)) ≤ 13 * (skp ch E p1 - p)
          omega
        · show K.2 + (acS n cap + 0) + 4 * cap ≤ 26 * (skp ch E p1 - p) + 40 + 8 * n
          omega
        · rw [a7 τ hτ]
          simp only [obs]
          rw [loopO_1 ((tw τ hτ _).trans (if_neg c))]
          show some _ = some _
          rw [sumI_gup]
    · rw [bnd_r]
      refine ⟨_, _, rfl, Or.inr ⟨g, p1, d1, rfl, a1, ⟨by omega, by omega⟩, fun τ hτ => ?_⟩⟩
      obtain ⟨v, a, dd, -, e3, e4⟩ := a4 τ hτ
      refine ⟨sumI n (fun i => gs i (factT τ)) + v, a, dd, e3, ?_⟩
      rw [e4]
      simp only [obs]
      have : X7_sum_L5 (td τ a dd (nI g), sumI n (fun i => gs i (factT τ)) + v) = some (.inr (td τ a dd (nI g), sumI n (fun i => gs i (factT τ)) + v)) := by
        unfold X7_sum_L5
        simp only []
        rw [td_12, if_neg (nI_nm1 (by omega))]
      rw [loopO_1 this]
      rfl
theorem S_sum (h : CB σ ch E) {p d : Nat} {b : Int32} (hp : p ≤ E) : PS σ ch E p d (X1_sum (rd σ p b d)) X7_sum false 400 1 (fun p' K => 4 * K.1 ≤ 13 * (p' - p) + 8 ∧ K.2 ≤ 26 * (p' - p) + 44) (fun K => 4 * K.1 ≤ 13 * (E - p) + 448 ∧ K.2 ≤ 26 * (E - p) + 2094) := by
  have hE := h.2.1
  obtain ⟨out, K, ex, hc⟩ := S_sumL (d := d) h (E - p + 1) p b 0 0 (fun _ _ => 0) FU FU hp (by omega) (by unfold FU; omega) (by unfold FU; omega) (by omega) (by omega) (fun i hi => by omega)
  have tw : ∀ (τ : Mm) (y : Mm) (v : Int32), (X7_part (td τ p (nI d) (-1))).bind (fun x => loopO X7_sum_L5 FU (x.2, sumI 0 (fun i => (fun _ _ => 0 : Nat → FcV) i (factT τ)) + x.1)) = some (y, v) → X7_sum (td τ p (nI d) (-1)) = some (v, y) := by
    intro τ y v h9
    unfold X7_sum
    cases hX : X7_part (td τ p (nI d) (-1)) with
    | none => rw [hX] at h9; cases h9
    | some x =>
      rw [hX] at h9
      simp only [obs] at h9 ⊢
      rw [show sumI 0 (fun i => (fun _ _ => 0 : Nat → FcV) i (factT τ)) + x.1 = x.1 from Int32.zero_add _] at h9
      rw [h9]
      rfl
  unfold X1_sum
  rw [ex, addc_s, addc_s]
  refine ⟨_, _, rfl, ?_⟩
  rcases hc with ⟨f, p1, b1, rfl, a1, a2, a3, a4, ⟨a5, a6⟩, a7⟩ | ⟨g, p1, d1, rfl, a1, ⟨a2, a3⟩, a4⟩
  · refine Or.inl ⟨f, p1, b1, rfl, a1, a2, a3, a4, fun g => by (cases g), ⟨?_, ?_⟩, fun τ hτ => tw τ _ _ (a7 τ hτ)⟩
    · show 4 * (1 + (1 + K.1)) ≤ 13 * (p1 - p) + 8
      omega
    · show 1 + (3 + K.2) ≤ 26 * (p1 - p) + 44
      omega
  · refine Or.inr ⟨g, p1, d1, rfl, a1, ⟨?_, ?_⟩, fun τ hτ => ?_⟩
    · show 4 * (1 + (1 + K.1)) ≤ 13 * (E - p) + 448
      omega
    · show 1 + (3 + K.2) ≤ 26 * (E - p) + 2094
      omega
    · obtain ⟨v, a, dd, e3, e4⟩ := a4 τ hτ
      exact ⟨v, a, dd, fun g => by (cases g), e3, tw τ _ _ e4⟩
end LSUM
/-! rows: every, some -/
def cmbA (v w : Int32) : Int32 := if v = 0 then 0 else if w = 0 then 0 else 1
def cmbO (v w : Int32) : Int32 := if v = 0 then (if w = 0 then 0 else 1) else 1
def twL (A : Mm → Option (Int32 × Mm)) (j : Nat) (cmb : Int32 → Int32 → Int32) (w : Mm × Int32) : Option ((Mm × Int32) ⊕ (Mm × Int32)) := if w.1 10 12 = -1 then (X7_has w.1 j).bind fun x => if x.1 = 0 then some (.inr (x.2, w.2)) else (A x.2).bind fun y => some (.inl (y.2, cmb w.2 y.1)) else some (.inr (w.1, w.2))
def twR (A : Mm → Option (Int32 × Mm)) (j : Nat) (cmb : Int32 → Int32 → Int32) (τ : Mm) : Option (Int32 × Mm) := (A τ).bind fun x => (loopO (twL A j cmb) FU (x.2, x.1)).bind fun e => (zb e.2).bind fun _ => some (e.2, e.1)
theorem every_L (A : Mm → Option (Int32 × Mm)) : X7_every_L5 A = twL A 26 cmbA := by
  funext w
  unfold X7_every_L5 twL cmbA
  by_cases c : w.1 10 12 = -1
  · rw [if_pos c, if_pos c]
    congr 1
    funext x
    by_cases c2 : x.1 = 0
    · rw [if_pos c2, if_pos c2]
    · rw [if_neg c2, if_neg c2]
      congr 1
      funext y
      by_cases c3 : w.2 = 0
      · rw [if_pos c3, if_pos c3]
      · rw [if_neg c3, if_neg c3]
        by_cases c4 : y.1 = 0
        · rw [if_pos c4, if_pos c4]
        · rw [if_neg c4, if_neg c4]
  · rw [if_neg c, if_neg c]
theorem some_L (A : Mm → Option (Int32 × Mm)) : X7_some_L5 A = twL (X7_every A) 27 cmbO := by
  funext w
  unfold X7_some_L5 twL cmbO
  by_cases c : w.1 10 12 = -1
  · rw [if_pos c, if_pos c]
    congr 1
    funext x
    by_cases c2 : x.1 = 0
    · rw [if_pos c2, if_pos c2]
    · rw [if_neg c2, if_neg c2]
      congr 1
      funext y
      by_cases c3 : w.2 = 0
      · rw [if_pos c3, if_pos c3]
        by_cases c4 : y.1 = 0
        · rw [if_pos c4, if_pos c4]
        · rw [if_neg c4, if_neg c4]
      · rw [if_neg c3, if_neg c3]
  · rw [if_neg c, if_neg c]
theorem every_R (A : Mm → Option (Int32 × Mm)) : X7_every A = twR A 26 cmbA := by
  funext τ
  unfold X7_every twR
  rw [every_L]
theorem some_R (A : Mm → Option (Int32 × Mm)) : X7_some A = twR (X7_every A) 27 cmbO := by
  funext τ
  unfold X7_some twR
  rw [some_L]
theorem rowV_1 {all x : Int32} {n : Nat} {g : Nat → Int32} (hall : z01 all) (hx : z01 (g n)) (hn : ∀ i, i < n → z01 (g i)) : rowV all (n + 1) g = (if all = 1 then cmbA (rowV all n g) (g n) else cmbO (rowV all n g) (g n)) := by
  have key : (∀ i, i < n + 1 → g i = all) ↔ (∀ i, i < n → g i = all) ∧ g n = all := by
    constructor
    · intro h
      exact ⟨fun i hi => h i (by omega), h n (by omega)⟩
    · rintro ⟨h1, h2⟩ i hi
      by_cases e : i = n
      · rw [e]; exact h2
      · exact h1 i (by omega)
  unfold rowV cmbA cmbO
  by_cases c : ∀ i, i < n → g i = all
  · by_cases c2 : g n = all
    · rw [if_pos (key.mpr ⟨c, c2⟩), if_pos c, c2]
      rcases hall with h | h <;> subst h <;> decide
    · rw [if_neg (fun q => c2 (key.mp q).2), if_pos c]
      rcases hall with h | h <;> rcases hx with k | k <;> subst h <;> rw [k] at c2 ⊢ <;> first | exact absurd rfl c2 | decide
  · rw [if_neg (fun q => c (key.mp q).1), if_neg c]
    rcases hall with h | h <;> rcases hx with k | k <;> subst h <;> rw [k] <;> decide
theorem rowV_0 {all : Int32} {g : Nat → Int32} (hall : z01 all) (hx : z01 (g 0)) : rowV all 1 g = g 0 := by
  unfold rowV
  by_cases c : g 0 = all
  · rw [if_pos (fun i hi => by rw [show i = 0 by omega]; exact c), c]
  · rw [if_neg (fun q => c (q 0 (by decide)))]
    rcases hall with h | h <;> rcases hx with k | k <;> subst h <;> rw [k] at c ⊢ <;> first | exact absurd rfl c | decide
theorem rowV_z {all : Int32} {n : Nat} {g : Nat → Int32} (hall : z01 all) : z01 (rowV all n g) := by
  unfold rowV
  split
  · exact hall
  · rcases hall with h | h <;> subst h <;> first | exact Or.inl rfl | exact Or.inr rfl
theorem rowV_ext {all : Int32} {n : Nat} {g g' : Nat → Int32} (h : ∀ i, i < n → g i = g' i) : rowV all n g = rowV all n g' := by
  unfold rowV
  by_cases c : ∀ i, i < n → g i = all
  · rw [if_pos c, if_pos (fun i hi => by rw [← h i hi]; exact c i hi)]
  · have c' : ¬ ∀ i, i < n → g' i = all := fun q => c (fun i hi => (h i hi).trans (q i hi))
    rw [if_neg c, if_neg c']
theorem fact_z {τ : Mm} {ch : Nat → Nat} {E : Nat} (h : Tw τ ch E) : z01 (factT τ 7) ∧ z01 (factT τ 8) := ⟨h.2.1, h.2.2⟩
theorem zb_z {x : Int32} (h : z01 x) : zb x = some x := by
  unfold zb
  exact if_pos h
section LROW
variable {σ : Cs} {ch : Nat → Nat} {E : Nat}
theorem S_rowL (h : CB σ ch E) {d : Nat} {f1 : Cs → Option (FcP × Kc)} {A7 : Mm → Option (Int32 × Mm)} {j : Nat} {all : Int32} {B te ec es tc ts : Nat} (hj : 2 ≤ lenS.getD j 0 ∧ lenS.getD j 0 ≤ 40) (hall : z01 all) (hte : te ≤ 1) (hes : 8 ≤ es) (hec : 4 ≤ ec)
    (he : ∀ (p : Nat) (b : Int32), p ≤ E → PS σ ch E p d (f1 (rd σ p b d)) A7 true B 2 (fun p' K => 4 * K.1 + ec ≤ 60 * (p' - p) + te * (16 + wl ch E p') ∧ K.2 + es ≤ 150 * (p' - p) + te * (28 + 5 * wl ch E p')) (fun K => 4 * K.1 ≤ 60 * (E - p) + tc ∧ K.2 ≤ 150 * (E - p) + ts)) :
    ∀ (r p : Nat) (b : Int32) (n cap : Nat) (gs : Nat → FcV) (m m7 : Nat), p ≤ E → E - p < r → r ≤ m → r ≤ m7 → cap ≤ 10 + 2 * n → n + (E - p) ≤ 400 → (∀ i, i < n → fExt (gs i) ∧ f01 (gs i)) →
    ∃ out K, rowL f1 j all m (rd σ p b d) n cap gs = some (out, K) ∧ ((∃ (f : FcV) (p' : Nat) (b' : Int32), out = .inl (f, rd σ p' b' d) ∧ p + 2 ≤ p' ∧ wnd ch E p ≤ p' ∧ p' ≤ E ∧ (fExt f ∧ f01 f) ∧ (4 * K.1 + ec ≤ 60 * (p' - p) + 4 + (te + 1) * (16 + wl ch E p') ∧ K.2 + 4 * cap + es ≤ 150 * (p' - p) + 48 + 8 * n + (te + 1) * (28 + 5 * wl ch E p')) ∧ ∀ τ, Tw τ ch E → (A7 (td τ p (nI d) (-1))).bind (fun x => loopO (twL A7 j (if all = 1 then cmbA else cmbO)) m7 (x.2, if n = 0 then x.1 else (if all = 1 then cmbA else cmbO) (rowV all n (fun i => gs i (factT τ))) x.1)) = some (td τ p' (nI d) (-1), f (factT τ))) ∨ (∃ g p' d' : Nat, out = .inr (rd σ p' (nI g) d') ∧ g ≤ E ∧ (4 * K.1 ≤ 60 * (E - p) + tc ∧ K.2 + 4 * cap ≤ 150 * (E - p) + 40 + 8 * n + ts) ∧ ∀ τ, Tw τ ch E → ∃ (v : Int32) (a : Nat) (dd : Int32), z01 v ∧ a ≤ B ∧ (A7 (td τ p (nI d) (-1))).bind (fun x => loopO (twL A7 j (if all = 1 then cmbA else cmbO)) m7 (x.2, if n = 0 then x.1 else (if all = 1 then cmbA else cmbO) (rowV all n (fun i => gs i (factT τ))) x.1)) = some (td τ a dd (nI g), v))) := by
  have hE := h.2.1
  intro r
  induction r with
  | zero => intro p b n cap gs m m7 hp hr; omega
  | succ r ih =>
    intro p b n cap gs m m7 hp hr hm hm7 hcap hn hgs
    obtain ⟨m, rfl⟩ : ∃ m', m = m' + 1 := ⟨m - 1, by omega⟩
    obtain ⟨m7, rfl⟩ : ∃ m', m7 = m' + 1 := ⟨m7 - 1, by omega⟩
    obtain ⟨out, K, ex, hc⟩ := he p b hp
    obtain ⟨k1, k2, k3⟩ := cap_s hcap
    have zc : ∀ v w : Int32, z01 ((if all = 1 then cmbA else cmbO) v w) := by
      intro v w
      rcases hall with q | q <;> subst q
      · rw [if_neg (by decide)]
        unfold cmbO
        split
        · split
          · exact Or.inl rfl
          · exact Or.inr rfl
        · exact Or.inr rfl
      · rw [if_pos rfl]
        unfold cmbA
        split
        · exact Or.inl rfl
        · split
          · exact Or.inl rfl
          · exact Or.inr rfl
    unfold rowL
    rw [ex]
    rcases hc with ⟨f, p1, b1, rfl, a1, a2, a3, a4, a8, ⟨a5, a6⟩, a7⟩ | ⟨g, p1, d1, rfl, a1, ⟨a2, a3⟩, a4⟩
    · have a8 := a8 rfl
      have hgs' := gup_all (P := fun f => fExt f ∧ f01 f) hgs ⟨a4, a8⟩
      have acc : ∀ τ, Tw τ ch E → (if n = 0 then f (factT τ) else (if all = 1 then cmbA else cmbO) (rowV all n (fun i => gs i (factT τ))) (f (factT τ))) = rowV all (n + 1) (fun i => gup gs n f i (factT τ)) := by
        intro τ hτ
        have z := fact_z hτ
        by_cases c : n = 0
        · subst c
          rw [if_pos rfl, rowV_0 hall (by show z01 (gup gs 0 f 0 (factT τ)); rw [gup_eq]; exact a8 _ z.1 z.2), gup_eq]
        · rw [if_neg c, rowV_1 (x := 0) hall (by show z01 (gup gs n f n (factT τ)); rw [gup_eq]; exact a8 _ z.1 z.2) (fun i hi => by show z01 (gup gs n f i (factT τ)); rw [gup_lt hi]; exact (hgs i hi).2 _ z.1 z.2)]
          rw [rowV_ext (g := fun i => gup gs n f i (factT τ)) (g' := fun i => gs i (factT τ)) (fun i hi => by rw [gup_lt hi]), gup_eq]
          by_cases c2 : all = 1
          · rw [if_pos c2, if_pos c2]
          · rw [if_neg c2, if_neg c2]
      rw [bnd_l]
      simp only []
      rw [if_pos (show cap < 2 ^ 18 by omega)]
      obtain ⟨K3, e3, ek⟩ := X3_passes_s (b := b1) (d := d) h a3 j
      rw [e3, bnd_l]
      have s1 := skp_ge (ch := ch) (E := E) p1
      have s2 := skp_le (ch := ch) a3
      have s3 := wnd_ge (ch := ch) (E := E) p1
      have s4 := wnd_le (ch := ch) a3
      have wc := wcost (wl ch E p1)
      have hK3 : 4 * K3.1 ≤ 16 + wl ch E p1 ∧ K3.2 ≤ 28 + 5 * wl ch E p1 := by rw [ek]; exact ⟨wc.1, wc.2⟩
      have tw : ∀ τ, Tw τ ch E → ∀ ac : Int32, twL A7 j (if all = 1 then cmbA else cmbO) (td τ p1 (nI d) (-1), ac) = (if wq ch E p1 j = true then (A7 (td τ (wnd ch E p1) (nI d) (-1))).bind (fun y => some (.inl (y.2, (if all = 1 then cmbA else cmbO) ac y.1))) else some (.inr (td τ (skp ch E p1) (nI d) (-1), ac))) := by
        intro τ hτ ac
        unfold twL
        simp only []
        rw [td_12, if_pos rfl, T_has hτ.1 a3 j hj.2]
        simp only [obs]
        cases e : wq ch E p1 j with
        | true => rw [if_neg (by decide), if_pos rfl, if_pos rfl]
        | false => rw [if_pos (by decide), if_neg (by decide), if_neg (by decide)]
      cases e : wq ch E p1 j with
      | true =>
        have hl := wq_wl e
        simp only [↓reduceIte]
        rw [if_neg (by decide)]
        obtain ⟨out2, K2, e2, h2⟩ := ih (wnd ch E p1) (nI (skp ch E p1)) (n + 1) (ncap n cap) (gup gs n f) m m7 s4 (by omega) (by omega) (by omega) k3 (by omega) hgs'
        rw [e2, addc_s, addc_s, addc_s]
        refine ⟨_, _, rfl, ?_⟩
        have hw : wl ch E p1 = wnd ch E p1 - skp ch E p1 := rfl
        have te1 : te * (16 + wl ch E p1) ≤ 16 + wl ch E p1 := Nat.le_trans (Nat.mul_le_mul_right _ hte) (Nat.le_of_eq (Nat.one_mul _))
        have te2 : te * (28 + 5 * wl ch E p1) ≤ 28 + 5 * wl ch E p1 := Nat.le_trans (Nat.mul_le_mul_right _ hte) (Nat.le_of_eq (Nat.one_mul _))
        rcases h2 with ⟨f2, p2, b2, rfl, c1, c2, c3, c4, ⟨c5, c6⟩, c7⟩ | ⟨g, p2, d2, rfl, c1, ⟨c2, c3⟩, c4⟩
        · refine Or.inl ⟨f2, p2, b2, rfl, by omega, by omega, c3, c4, ⟨?_, ?_⟩, fun τ hτ => ?_⟩
          · show 4 * (K.1 + (acC n cap + (K3.1 + K2.1))) + ec ≤ 60 * (p2 - p) + 4 + (te + 1) * (16 + wl ch E p2)
            omega
          · show K.2 + (acS n cap + (K3.2 + K2.2)) + 4 * cap + es ≤ 150 * (p2 - p) + 48 + 8 * n + (te + 1) * (28 + 5 * wl ch E p2)
            omega
          · rw [a7 τ hτ]
            simp only [obs]
            have := c7 τ hτ
            simp only [if_neg (show ¬ n + 1 = 0 from Nat.succ_ne_zero n)] at this
            rw [acc τ hτ, ← this]
            show (twL A7 j _ _).bind _ = _
            rw [tw τ hτ, if_pos e]
            cases A7 (td τ (wnd ch E p1) (nI d) (-1)) with
            | none => rfl
            | some y => simp only [obs, if_neg (show ¬ n + 1 = 0 from Nat.succ_ne_zero n)]; rfl
        · refine Or.inr ⟨g, p2, d2, rfl, c1, ⟨?_, ?_⟩, fun τ hτ => ?_⟩
          · show 4 * (K.1 + (acC n cap + (K3.1 + K2.1))) ≤ 60 * (E - p) + tc
            omega
          · show K.2 + (acS n cap + (K3.2 + K2.2)) + 4 * cap ≤ 150 * (E - p) + 40 + 8 * n + ts
            omega
          · obtain ⟨v, a, dd, z, e5, e4⟩ := c4 τ hτ
            refine ⟨v, a, dd, z, e5, ?_⟩
            rw [a7 τ hτ]
            simp only [obs]
            simp only [if_neg (show ¬ n + 1 = 0 from Nat.succ_ne_zero n)] at e4
            rw [acc τ hτ, ← e4]
            show (twL A7 j _ _).bind _ = _
            rw [tw τ hτ, if_pos e]
            cases A7 (td τ (wnd ch E p1) (nI d) (-1)) with
            | none => rfl
            | some y => simp only [obs, if_neg (show ¬ n + 1 = 0 from Nat.succ_ne_zero n)]; rfl
      | false =>
        simp only [↓reduceIte, Bool.false_eq_true]
        rw [if_pos (by decide), addc_s, addc_s, addc_s]
        refine ⟨_, _, rfl, Or.inl ⟨_, skp ch E p1, _, rfl, by omega, by omega, s2, ⟨fun s s' hs => rowV_ext (fun i hi => (hgs' i hi).1 s s' hs), fun s _ _ => rowV_z hall⟩, ⟨?_, ?_⟩, fun τ hτ => ?_⟩⟩
        · rw [wl_skp]
          show 4 * (K.1 + (acC n cap + (K3.1 + 0))) + ec ≤ 60 * (skp ch E p1 - p) + 4 + (te + 1) * (16 + wl ch E p1)
          rw [Nat.add_mul, Nat.one_mul]
          omega
        · rw [wl_skp]
          show K.2 + (acS n cap + (K3.2 + 0)) + 4 * cap + es ≤ 150 * (skp ch E p1 - p) + 48 + 8 * n + (te + 1) * (28 + 5 * wl ch E p1)
          rw [Nat.add_mul te 1 (28 + 5 * wl ch E p1), Nat.one_mul]
          omega
        · rw [a7 τ hτ]
          simp only [obs]
          rw [acc τ hτ, loopO_1 ((tw τ hτ _).trans (if_neg (by rw [e]; decide)))]
          rfl
    · rw [bnd_r]
      refine ⟨_, _, rfl, Or.inr ⟨g, p1, d1, rfl, a1, ⟨by omega, by omega⟩, fun τ hτ => ?_⟩⟩
      obtain ⟨v, a, dd, z, e3, e4⟩ := a4 τ hτ
      refine ⟨if n = 0 then v else (if all = 1 then cmbA else cmbO) (rowV all n (fun i => gs i (factT τ))) v, a, dd, ?_, e3, ?_⟩
      · by_cases c : n = 0
        · rw [if_pos c]; exact z rfl
        · rw [if_neg c]; exact zc _ _
      · rw [e4]
        simp only [obs]
        have : ∀ ac : Int32, twL A7 j (if all = 1 then cmbA else cmbO) (td τ a dd (nI g), ac) = some (.inr (td τ a dd (nI g), ac)) := by
          intro ac
          unfold twL
          simp only []
          rw [td_12, if_neg (nI_nm1 (by omega))]
        rw [loopO_1 (this _)]
        rfl
theorem S_row (h : CB σ ch E) {p d : Nat} {b : Int32} (hp : p ≤ E) {f1 : Cs → Option (FcP × Kc)} {A7 : Mm → Option (Int32 × Mm)} {j : Nat} {all : Int32} {B te ec es tc ts : Nat} (hj : 2 ≤ lenS.getD j 0 ∧ lenS.getD j 0 ≤ 40) (hall : z01 all) (hte : te ≤ 1) (hes : 53 ≤ es) (hec : 12 ≤ ec)
    (he : ∀ (p : Nat) (b : Int32), p ≤ E → PS σ ch E p d (f1 (rd σ p b d)) A7 true B 2 (fun p' K => 4 * K.1 + ec ≤ 60 * (p' - p) + te * (16 + wl ch E p') ∧ K.2 + es ≤ 150 * (p' - p) + te * (28 + 5 * wl ch E p')) (fun K => 4 * K.1 ≤ 60 * (E - p) + tc ∧ K.2 ≤ 150 * (E - p) + ts)) :
    PS σ ch E p d (X1_row f1 j all (rd σ p b d)) (twR A7 j (if all = 1 then cmbA else cmbO)) true B 2 (fun p' K => 4 * K.1 + (ec - 12) ≤ 60 * (p' - p) + (te + 1) * (16 + wl ch E p') ∧ K.2 + (es - 53) ≤ 150 * (p' - p) + (te + 1) * (28 + 5 * wl ch E p')) (fun K => 4 * K.1 ≤ 60 * (E - p) + (tc + 8) ∧ K.2 ≤ 150 * (E - p) + (ts + 45)) := by
  have hE := h.2.1
  obtain ⟨out, K, ex, hc⟩ := S_rowL (d := d) h hj hall hte (by omega) (by omega) he (E - p + 1) p b 0 0 (fun _ _ => 0) FU FU hp (by omega) (by unfold FU; omega) (by unfold FU; omega) (by omega) (by omega) (fun i hi => by omega)
  have tw : ∀ (τ : Mm) (y : Mm) (v : Int32), z01 v → (A7 (td τ p (nI d) (-1))).bind (fun x => loopO (twL A7 j (if all = 1 then cmbA else cmbO)) FU (x.2, if (0 : Nat) = 0 then x.1 else (if all = 1 then cmbA else cmbO) (rowV all 0 (fun i => (fun _ _ => 0 : Nat → FcV) i (factT τ))) x.1)) = some (y, v) → twR A7 j (if all = 1 then cmbA else cmbO) (td τ p (nI d) (-1)) = some (v, y) := by
    intro τ y v hz h9
    unfold twR
    cases hX : A7 (td τ p (nI d) (-1)) with
    | none => rw [hX] at h9; cases h9
    | some x =>
      rw [hX] at h9
      simp only [obs, ↓reduceIte] at h9 ⊢
      rw [h9]
      simp only [obs, zb_z hz]
  unfold X1_row
  rw [ex, addc_s, addc_s]
  refine ⟨_, _, rfl, ?_⟩
  rcases hc with ⟨f, p1, b1, rfl, a1, a2, a3, a4, ⟨a5, a6⟩, a7⟩ | ⟨g, p1, d1, rfl, a1, ⟨a2, a3⟩, a4⟩
  · refine Or.inl ⟨f, p1, b1, rfl, a1, a2, a3, a4.1, fun _ => a4.2, ⟨?_, ?_⟩, fun τ hτ => tw τ _ _ (a4.2 _ (fact_z hτ).1 (fact_z hτ).2) (a7 τ hτ)⟩
    · show 4 * (1 + (1 + K.1)) + (ec - 12) ≤ _
      omega
    · show 2 + (3 + K.2) + (es - 53) ≤ _
      omega
  · refine Or.inr ⟨g, p1, d1, rfl, a1, ⟨?_, ?_⟩, fun τ hτ => ?_⟩
    · show 4 * (1 + (1 + K.1)) ≤ 60 * (E - p) + (tc + 8)
      omega
    · show 2 + (3 + K.2) ≤ 150 * (E - p) + (ts + 45)
      omega
    · obtain ⟨v, a, dd, z, e3, e4⟩ := a4 τ hτ
      exact ⟨v, a, dd, fun _ => z, e3, tw τ _ _ z e4⟩
end LROW
