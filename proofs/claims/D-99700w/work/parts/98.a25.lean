/-! PURE: jars -/
theorem sb_jar : ∀ n, n < 256 → (inB (sb n) 0 60 = decide (n < 61)) ∧ (inB (sb n) 0 1 = decide (n < 2)) := by decide +kernel
/-- the tape's use -/
def Txt (σ : Cs) (τ : Mm) (ch : Nat → Nat) (l : Nat) : Prop := l ≤ 400 ∧ co σ 1 1 = nI l ∧ τ 10 8 = nI l ∧ ∀ k, k < 400 → ch k < 256 ∧ co σ 2 k = sb (ch k) ∧ τ 4 k = nI (ch k)
def begS (σ : Cs) : Cs := cou σ (mup (mup (mup (mup (co σ) 1 2 (co σ 1 1)) 1 1 0) 1 3 0) 1 6 0)
def gdJ (ch : Nat → Nat) (k : Nat) : Prop := if k % 2 = 0 then ch k < 61 else ch k < 2
def allJ (ch : Nat → Nat) (l : Nat) : Prop := ∀ k, k < l → gdJ ch k
def upP (σ : Cs) (p : Nat) : Nat := tN ((X1_readFrom σ (nI (p / 21)) (nI (p % 21))).getD 0)
def rdP (σ : Cs) (p t : Nat) : Bool := decide (upP σ p ≤ t) && (decide (cw σ 0 12 (p / 21) = 0) || decide (t < upP σ p + tN (cw σ 0 12 (p / 21))))
def fiP (σ : Cs) (ch : Nat → Nat) (p : Nat) : Nat → Bool
  | 0 => true
  | m + 1 => fiP σ ch p m && (rdP σ p (ch (2 * m)) == decide (ch (2 * m + 1) = 1))
theorem fiP_mono {σ : Cs} {ch : Nat → Nat} {p n m : Nat} (h : fiP σ ch p n = false) (hm : n ≤ m) : fiP σ ch p m = false := by
  induction m with
  | zero =>
    have : n = 0 := by omega
    subst this
    exact h
  | succ m ih =>
    by_cases e : n = m + 1
    · subst e; exact h
    · show (fiP σ ch p m && _) = false
      rw [ih (by omega)]
      rfl
section AM
variable {Λ : Nat → Nat → (Nat → Int32) → Int32} {Λn : Nat → Int32} {σ : Cs} {τ : Mm}
theorem Sys.tape {σ' : Cs} {τ' : Mm} (h : Sys Λ Λn σ τ) (a0 : ∀ i, (i = 0 ∨ i = 2 ∨ 5 ≤ i) → cw σ' i = cw σ i ∧ cl σ' i = cl σ i) (a1 : co σ' 9 0 = co σ 9 0 ∧ co σ' 0 3 = co σ 0 3 ∧ co σ' 2 = co σ 2) (l : co σ' 1 1 = 0) (b : τ' 0 = τ 0 ∧ τ' 1 = τ 1 ∧ τ' 3 = τ 3 ∧ τ' 4 = τ 4) (bj : ∀ j, j = 3 ∨ j = 6 ∨ j = 19 → τ' 10 j = τ 10 j) (bz : z01 (τ' 10 15) ∧ z01 (τ' 10 16)) (b8 : τ' 10 8 = 0) (f : co σ' 1 5 = τ' 10 12) : Sys Λ Λn σ' τ' := by
  obtain ⟨h1, h2, h3, h4, ⟨n, u1, u2, u3, u4⟩, ⟨ch, m, t1, t2, t3, t4⟩, h7, h8, h9, h10⟩ := h
  obtain ⟨a2, a3, a4⟩ := a1
  obtain ⟨b1, b2, b3, b4⟩ := b
  have c0 := a0 0 (Or.inl rfl)
  have c2 := a0 2 (Or.inr (Or.inl rfl))
  refine ⟨by rw [c0.1]; exact h1, by rw [c0.1, b1]; exact h2, by rw [c0.2, b1]; exact h3, ?_, ⟨n, u1, a2.trans u2, (bj 6 (by omega)).trans u3, fun i hi => ?_⟩, ⟨ch, 0, by omega, l, b8, fun k hk => ?_⟩, f, (bj 19 (by omega)).trans h8, bz.1, bz.2⟩
  · unfold Img
    rw [a3, bj 3 (by omega), c2.1, c2.2, b2, imM_e b2 (fun i _ => by rw [b1])]
    exact h4
  · have c5 := a0 (5 + i) (by omega)
    rw [c5.1, c5.2, c0.2, b3, b1]
    exact u4 i hi
  · rw [a4, b4]
    exact t4 k hk
theorem begS_s : X3_begins σ = some (begS σ) := rfl
theorem Sys.txt (h : Sys Λ Λn σ τ) : ∃ ch l, Txt σ τ ch l := by
  obtain ⟨ch, l, h1, h2, h3, h4⟩ := h.2.2.2.2.2.1
  exact ⟨ch, l, h1, h2, h3, h4⟩
/-! from when on a pair is to be read -/
theorem X1_readFrom_c {σ' : Cs} (h : cw σ' 0 = cw σ 0) : X1_readFrom σ' = X1_readFrom σ := by
  have : X1_readFrom_L5 σ' = X1_readFrom_L5 σ := by
    funext a b
    unfold X1_readFrom_L5 X1_soaksUp
    rw [h]
  unfold X1_readFrom
  rw [this]
theorem up_P {w : Mm} (h : WI w) (ew : cw σ 0 = w) (hr : WR w (τ 0)) {p : Nat} (hp : p < 21 * nK w) : X1_readFrom σ (nI (p / 21)) (nI (p % 21)) = some (nI (upP σ p)) ∧ X7_upOf τ (nI (p / 21)) (nI (p % 21)) = some (nI (upP σ p)) ∧ upP σ p ≤ 119 := by
  have hi : p / 21 < nK w := Nat.div_lt_of_lt_mul hp
  have ht : p % 21 < 21 := Nat.mod_lt _ (by decide)
  obtain ⟨u, h1, h2, e1, e2⟩ := up_both (σ := σ) h ew hr hi (t := p % 21) (by omega)
  have eu : upP σ p = u := by
    unfold upP
    rw [e1, Option.getD_some, tN_nI (by omega)]
  rw [eu]
  exact ⟨e1, e2, by omega⟩
theorem p21 {p : Nat} (hp : p < 126) : nI p / 21 = nI (p / 21) ∧ nI p - nI p / 21 * 21 = nI (p % 21) := ⟨pk_div (a := p) (d := 21) (by omega) (by decide) (by decide), pk_rem (a := p) (d := 21) (by omega) (by decide) (by decide)⟩
/-- the component's rows -/
def jarS (σ σ' : Cs) (n : Nat) : Prop := (∃ f g, σ' = cou σ (mset (mset (co σ) 5 f) 6 g)) ∧ ∀ p, p < n → co σ' 5 p = nI (upP σ p) ∧ co σ' 6 p = (if cw σ 0 12 (p / 21) = 0 then 100000000 else nI (upP σ p) + cw σ 0 12 (p / 21))
theorem told95 (h : WI (cw σ 0)) (hr : WR (cw σ 0) (τ 0)) : ∃ σ', X6_told_L95 FU σ 0 = some (.inl (0, σ')) ∧ jarS σ σ' (21 * nK (cw σ 0)) := by
  obtain ⟨e, hK⟩ := h.K
  have key : ∀ k n p σ1, p + k = 21 * nK (cw σ 0) → k < n → jarS σ σ1 p → ∃ σ', X6_told_L95 n σ1 (nI p) = some (.inl (0, σ')) ∧ jarS σ σ' (21 * nK (cw σ 0)) := by
    intro k
    induction k with
    | zero =>
      intro n p σ1 h1 h2 h3
      obtain ⟨m, rfl⟩ : ∃ m, n = m + 1 := ⟨n - 1, by omega⟩
      have ec : cw σ1 0 = cw σ 0 := by obtain ⟨⟨f, g, rfl⟩, -⟩ := h3; rfl
      unfold X6_told_L95
      rw [ec, e, show (21 : Int32) = nI 21 from rfl, pk_mul, if_pos (nI_le (by omega) (by omega))]
      have : p = 21 * nK (cw σ 0) := by omega
      rw [← this]
      exact ⟨σ1, rfl, h3⟩
    | succ k ih =>
      intro n p σ1 h1 h2 h3
      obtain ⟨m, rfl⟩ : ∃ m, n = m + 1 := ⟨n - 1, by omega⟩
      have ec : cw σ1 0 = cw σ 0 := by obtain ⟨⟨f, g, rfl⟩, -⟩ := h3; rfl
      obtain ⟨⟨f, g, es⟩, hg⟩ := h3
      have hi : p / 21 < nK (cw σ 0) := Nat.div_lt_of_lt_mul (by omega)
      obtain ⟨u1, -, u3⟩ := up_P (σ := σ) h rfl hr (p := p) (by omega)
      obtain ⟨q1, q2⟩ := p21 (p := p) (by omega)
      obtain ⟨kp, hkp, ekp⟩ := h.keep hi
      unfold X6_told_L95
      rw [ec, e, show nI (nK (cw σ 0)) * 21 = nI (nK (cw σ 0) * 21) from pk_mul _ 21, if_neg (nI_ge (by omega) (by omega)), q2, q1, X1_readFrom_c ec, u1, obs, stofN (by omega) (by decide), obs, obs, cw_cou, ec, ldN (by omega) (by decide), obs]
      have c5 : co σ1 5 = f := by rw [es]; rfl
      have c6 : co σ1 6 = g := by rw [es]; rfl
      have new : ∀ y, y = (if cw σ 0 12 (p / 21) = 0 then 100000000 else nI (upP σ p) + cw σ 0 12 (p / 21)) → jarS σ (cou (cou σ1 (mset (co σ1) 5 (upd f p (nI (upP σ p))))) (mset (co (cou σ1 (mset (co σ1) 5 (upd f p (nI (upP σ p)))))) 6 (upd g p y))) (p + 1) := by
        intro y hy
        refine ⟨⟨upd f p (nI (upP σ p)), upd g p y, ?_⟩, fun j hj => ?_⟩
        · rw [es]
          show cou σ _ = cou σ _
          congr 1
          funext a
          rw [co_cou, co_cou]
          unfold mset
          by_cases a5 : a = 5
          · subst a5
            rfl
          · by_cases a6 : a = 6
            · subst a6; rfl
            · rw [if_neg a6, if_neg a5, if_neg a6, if_neg a5, if_neg a6, if_neg a5]
        · rw [co_cou, mset_r (show (5 : Nat) ≠ 6 by decide), co_cou, mset_e, mset_e]
          by_cases ej : j = p
          · subst ej
            rw [show upd f j (nI (upP σ j)) j = nI (upP σ j) from if_pos rfl, show upd g j y j = y from if_pos rfl]
            exact ⟨rfl, hy⟩
          · rw [show upd f p (nI (upP σ p)) j = f j from if_neg ej, show upd g p y j = g j from if_neg ej, ← c5, ← c6]
            exact hg j (by omega)
      rw [c5]
      by_cases c : cw σ 0 12 (p / 21) = 0
      · rw [if_pos c, stofN (by omega) (by decide), obs, obs, nI_1, obs]
        rw [show co (cou σ1 (mset (co σ1) 5 (upd f p (nI (upP σ p))))) 6 = g from by rw [co_cou, mset_r (show (6 : Nat) ≠ 5 by decide), c6]]
        exact ih m (p + 1) _ (by omega) (by omega) (new _ (by rw [if_pos c]))
      · rw [if_neg c, ldN (by omega) (by decide), obs, stofN (by omega) (by decide), obs, obs, nI_1, obs]
        rw [show co (cou σ1 (mset (co σ1) 5 (upd f p (nI (upP σ p))))) 6 = g from by rw [co_cou, mset_r (show (6 : Nat) ≠ 5 by decide), c6], show co (cou σ1 (mset (co σ1) 5 (upd f p (nI (upP σ p))))) 5 p = nI (upP σ p) from by rw [co_cou, mset_e]; exact if_pos rfl]
        exact ih m (p + 1) _ (by omega) (by omega) (new _ (by rw [if_neg c]))
  refine key (21 * nK (cw σ 0)) FU 0 σ (by omega) (by unfold FU; omega) ⟨⟨co σ 5, co σ 6, ?_⟩, fun p hp => absurd hp (by omega)⟩
  show σ = cou σ _
  obtain ⟨a, b, c, d⟩ := σ
  show (a, b, c, d) = (a, mset (mset b 5 (b 5)) 6 (b 6), c, d)
  congr 2
  funext r
  unfold mset
  by_cases a6 : r = 6
  · rw [if_pos a6, a6]
  · rw [if_neg a6]
    by_cases a5 : r = 5
    · rw [if_pos a5, a5]
    · rw [if_neg a5]
theorem told40 {ch : Nat → Nat} {l : Nat} (hl : l ≤ 40) (h2 : l % 2 = 0) (e2 : co σ 1 2 = nI l) (ht : ∀ k, k < 400 → ch k < 256 ∧ co σ 2 k = sb (ch k)) : (allJ ch l ∧ X6_told_L40 FU σ 0 = X6_told_L95 FU σ 0) ∨ (¬ allJ ch l ∧ X6_told_L40 FU σ 0 = some (.inr (1, σ))) := by
  have key : ∀ j n k, k + 2 * j = l → j < n → allJ ch k → (allJ ch l ∧ X6_told_L40 n σ (nI k) = X6_told_L95 FU σ 0) ∨ (¬ allJ ch l ∧ X6_told_L40 n σ (nI k) = some (.inr (1, σ))) := by
    intro j
    induction j with
    | zero =>
      intro n k h1 h3 h4
      obtain ⟨m, rfl⟩ : ∃ m, n = m + 1 := ⟨n - 1, by omega⟩
      have : k = l := by omega
      subst this
      unfold X6_told_L40
      rw [e2, if_pos (nI_le (Nat.le_refl _) (by omega))]
      exact Or.inl ⟨h4, rfl⟩
    | succ j ih =>
      intro n k h1 h3 h4
      obtain ⟨m, rfl⟩ : ∃ m, n = m + 1 := ⟨n - 1, by omega⟩
      obtain ⟨c1, c2⟩ := ht k (by omega)
      obtain ⟨c3, c4⟩ := ht (k + 1) (by omega)
      unfold X6_told_L40
      rw [e2, if_neg (nI_ge (by omega) (by omega)), ldN (by omega) (by decide), obs, in_s, obs, c2, (sb_jar _ c1).1, nI_1, ldN (by omega) (by decide), show nI k + 2 = nI (k + 2) from nI_add k 2]
      simp only [obs, in_s, c4, (sb_jar _ c3).2]
      have kev : k % 2 = 0 := by omega
      have g1 : gdJ ch k ↔ ch k < 61 := by unfold gdJ; rw [if_pos kev]
      have g2 : gdJ ch (k + 1) ↔ ch (k + 1) < 2 := by unfold gdJ; rw [if_neg (by omega)]
      by_cases d1 : ch k < 61
      · rw [decide_eq_true d1, if_neg b01T]
        by_cases d2 : ch (k + 1) < 2
        · rw [decide_eq_true d2, if_neg b01T, show X1_demand 1 = some none from rfl, obs, Option.elim_none]
          refine ih m (k + 2) (by omega) (by omega) (fun i hi => ?_)
          by_cases q : i < k
          · exact h4 i q
          · by_cases q2 : i = k
            · subst q2; exact g1.mpr d1
            · have q3 : i = k + 1 := by omega
              subst q3; exact g2.mpr d2
        · rw [decide_eq_false d2, if_pos b01F, show X1_demand 0 = some (some 1) from rfl, obs, Option.elim_some]
          exact Or.inr ⟨fun q => d2 (g2.mp (q (k + 1) (by omega))), rfl⟩
      · rw [decide_eq_false d1, if_pos b01F, show X1_demand 0 = some (some 1) from rfl, obs, Option.elim_some]
        exact Or.inr ⟨fun q => d1 (g1.mp (q k (by omega))), rfl⟩
  exact key (l / 2) FU 0 (by omega) (by unfold FU; omega) (fun k hk => absurd hk (by omega))
theorem heard30 {ch : Nat → Nat} {l : Nat} (hl : l ≤ 40) (ht : ∀ k, k < 400 → ch k < 256 ∧ τ 4 k = nI (ch k)) : Rn (loopO (X7_heard_L30 τ (nI l)) FU (1, 0)) (fun e => (e = 1 ∧ allJ ch l) ∨ (e = 0 ∧ ¬ allJ ch l)) := by
  refine loopO_inv (fun k (s : Int32 × Int32) => s.2 = nI k ∧ ((s.1 = 1 ∧ allJ ch k) ∨ (s.1 = 0 ∧ ¬ allJ ch l))) _ l (by unfold FU; omega) (fun k s hk hs => ?_) ⟨rfl, Or.inl ⟨rfl, fun k hk => absurd hk (by omega)⟩⟩
  obtain ⟨acc, x⟩ := s
  obtain ⟨hx, hf⟩ := hs
  simp only at hx hf
  subst hx
  unfold X7_heard_L30
  simp only []
  rcases Nat.lt_or_ge k l with hlt | hge
  · rw [if_neg (nI_ge hlt (by omega))]
    rcases hf with ⟨rfl, hf⟩ | ⟨rfl, hf⟩
    · obtain ⟨c1, c2⟩ := ht k (by omega)
      have em : nI k - nI k / 2 * 2 = nI (k % 2) := pk_rem (a := k) (d := 2) (by omega) (by decide) (by decide)
      rw [if_neg (by decide), ldN (by omega) (by decide), obs, c2, em, nI_1]
      simp only [obs]
      have good : gdJ ch k → allJ ch (k + 1) := by
        intro g j hj
        by_cases q : j = k
        · subst q; exact g
        · exact hf j (by omega)
      have bad : ¬ gdJ ch k → ¬ allJ ch l := fun g q => g (q k hlt)
      by_cases ev : k % 2 = 0
      · have g1 : gdJ ch k ↔ ch k < 61 := by unfold gdJ; rw [if_pos ev]
        rw [ev, if_pos (show nI 0 = 0 from rfl)]
        by_cases d1 : (61 : Int32) ≤ nI (ch k)
        · rw [if_pos d1]
          have := (nI_leI (a := 61) (by decide) (by omega)).mp d1
          exact Rn.mk (Or.inl ⟨_, rfl, hlt, rfl, Or.inr ⟨rfl, bad (fun q => by have := g1.mp q; omega)⟩⟩)
        · rw [if_neg d1]
          have : ch k < 61 := Nat.lt_of_not_le fun q => d1 (nI_le (a := 61) q (by omega))
          exact Rn.mk (Or.inl ⟨_, rfl, hlt, rfl, Or.inl ⟨rfl, good (g1.mpr this)⟩⟩)
      · have g2 : gdJ ch k ↔ ch k < 2 := by unfold gdJ; rw [if_neg ev]
        rw [if_neg (show ¬ nI (k % 2) = 0 from fun q => ev ((nI_eq (b := 0) (by omega) (by decide)).mp q))]
        by_cases d1 : (2 : Int32) ≤ nI (ch k)
        · rw [if_pos d1]
          have := (nI_leI (a := 2) (by decide) (by omega)).mp d1
          exact Rn.mk (Or.inl ⟨_, rfl, hlt, rfl, Or.inr ⟨rfl, bad (fun q => by have := g2.mp q; omega)⟩⟩)
        · rw [if_neg d1]
          have : ch k < 2 := Nat.lt_of_not_le fun q => d1 (nI_le (a := 2) q (by omega))
          exact Rn.mk (Or.inl ⟨_, rfl, hlt, rfl, Or.inl ⟨rfl, good (g2.mpr this)⟩⟩)
    · rw [if_pos rfl]
      exact Rn.mk (Or.inr ⟨_, rfl, Or.inr ⟨rfl, hf⟩⟩)
  · have : k = l := by omega
    subst this
    rw [if_pos (nI_le (Nat.le_refl _) (by omega))]
    rcases hf with ⟨rfl, hf⟩ | ⟨rfl, hf⟩
    · exact Rn.mk (Or.inr ⟨_, rfl, Or.inl ⟨rfl, hf⟩⟩)
    · exact Rn.mk (Or.inr ⟨_, rfl, Or.inr ⟨rfl, hf⟩⟩)
end AM
