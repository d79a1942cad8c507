/-! PURE: the whole system, both sides: what holds between two calls -/
def lawNN (Λn : Nat → Int32) (x : Option Nat) : Int32 := match x with
  | none => -1
  | some a => Λn a
def LOK (Λ : Nat → Nat → (Nat → Int32) → Int32) (Λn : Nat → Int32) (x : Option Nat) (m : Nat → Int32) : Prop := LR (lawF Λ x) m ∧ m 1 = lawNN Λn x
def imM (τ : Mm) : Nat → Int32 := fun i => if i < 781 then τ 1 i else τ 0 i
theorem imM_e {τ τ' : Mm} (h1 : τ' 1 = τ 1) (h0 : ∀ i, 781 ≤ i → τ' 0 i = τ 0 i) : imM τ' = imM τ := by
  funext i
  unfold imM
  rw [h1]
  by_cases c : i < 781
  · rw [if_pos c, if_pos c]
  · rw [if_neg c, if_neg c, h0 i (by omega)]
def Img (Λ : Nat → Nat → (Nat → Int32) → Int32) (Λn : Nat → Int32) (σ : Cs) (τ : Mm) : Prop := (co σ 0 3 = 0 ∧ τ 10 3 = 0) ∨ (co σ 0 3 = 1 ∧ τ 10 3 = 1 ∧ WI (cw σ 2) ∧ WR (cw σ 2) (τ 1) ∧ LOK Λ Λn (cl σ 2) (imM τ))
def Und (σ : Cs) (τ : Mm) : Prop := ∃ n, n ≤ 12 ∧ co σ 9 0 = nI n ∧ τ 10 6 = nI n ∧ ∀ i, i < n → WI (cw σ (5 + i)) ∧ WR (cw σ (5 + i)) (fun k => τ 3 (381 * i + k)) ∧ cl σ (5 + i) = cl σ 0 ∧ τ 3 (381 * i + 1) = τ 0 1 ∧ τ 3 (381 * i + 2) = τ 0 2
def Tap (σ : Cs) (τ : Mm) : Prop := ∃ (ch : Nat → Nat) (n : Nat), n ≤ 400 ∧ co σ 1 1 = nI n ∧ τ 10 8 = nI n ∧ ∀ k, k < 400 → ch k < 256 ∧ co σ 2 k = sb (ch k) ∧ τ 4 k = nI (ch k)
def Sys (Λ : Nat → Nat → (Nat → Int32) → Int32) (Λn : Nat → Int32) (σ : Cs) (τ : Mm) : Prop := WI (cw σ 0) ∧ WR (cw σ 0) (τ 0) ∧ LOK Λ Λn (cl σ 0) (τ 0) ∧ Img Λ Λn σ τ ∧ Und σ τ ∧ Tap σ τ ∧ co σ 1 5 = τ 10 12 ∧ τ 10 19 = 0 ∧ z01 (τ 10 15) ∧ z01 (τ 10 16)
/-- the component's scratch alone has changed -/
def sS (σ σ' : Cs) : Prop := (cw σ' 0 = cw σ 0 ∧ cl σ' 0 = cl σ 0) ∧ (cw σ' 2 = cw σ 2 ∧ cl σ' 2 = cl σ 2) ∧ (∀ i, 5 ≤ i → cw σ' i = cw σ i ∧ cl σ' i = cl σ i) ∧ co σ' 9 0 = co σ 9 0 ∧ co σ' 0 3 = co σ 0 3 ∧ co σ' 1 1 = co σ 1 1 ∧ co σ' 1 5 = co σ 1 5 ∧ co σ' 2 = co σ 2 ∧ co σ' 7 = co σ 7 ∧ co σ' 8 = co σ 8
/-- .. the reference's -/
def sT (τ τ' : Mm) : Prop := τ' 0 = τ 0 ∧ τ' 1 = τ 1 ∧ τ' 3 = τ 3 ∧ τ' 4 = τ 4 ∧ (∀ j, j = 3 ∨ j = 6 ∨ j = 8 ∨ j = 12 ∨ j = 19 → τ' 10 j = τ 10 j) ∧ (∀ j, j = 15 ∨ j = 16 → z01 (τ 10 j) → z01 (τ' 10 j)) ∧ τ' 9 = τ 9 ∧ τ' 8 = τ 8
theorem sS.rf {σ : Cs} : sS σ σ := ⟨⟨rfl, rfl⟩, ⟨rfl, rfl⟩, fun _ _ => ⟨rfl, rfl⟩, rfl, rfl, rfl, rfl, rfl, rfl, rfl⟩
theorem sS.tr {a b c : Cs} (h : sS a b) (k : sS b c) : sS a c := ⟨⟨k.1.1.trans h.1.1, k.1.2.trans h.1.2⟩, ⟨k.2.1.1.trans h.2.1.1, k.2.1.2.trans h.2.1.2⟩, fun i hi => ⟨(k.2.2.1 i hi).1.trans (h.2.2.1 i hi).1, (k.2.2.1 i hi).2.trans (h.2.2.1 i hi).2⟩, k.2.2.2.1.trans h.2.2.2.1, k.2.2.2.2.1.trans h.2.2.2.2.1, k.2.2.2.2.2.1.trans h.2.2.2.2.2.1, k.2.2.2.2.2.2.1.trans h.2.2.2.2.2.2.1, k.2.2.2.2.2.2.2.1.trans h.2.2.2.2.2.2.2.1, k.2.2.2.2.2.2.2.2.1.trans h.2.2.2.2.2.2.2.2.1, k.2.2.2.2.2.2.2.2.2.trans h.2.2.2.2.2.2.2.2.2⟩
theorem sT.rf {τ : Mm} : sT τ τ := ⟨rfl, rfl, rfl, rfl, fun _ _ => rfl, fun _ _ h => h, rfl, rfl⟩
theorem sT.tr {a b c : Mm} (h : sT a b) (k : sT b c) : sT a c := ⟨k.1.trans h.1, k.2.1.trans h.2.1, k.2.2.1.trans h.2.2.1, k.2.2.2.1.trans h.2.2.2.1, fun j hj => (k.2.2.2.2.1 j hj).trans (h.2.2.2.2.1 j hj), fun j hj z => k.2.2.2.2.2.1 j hj (h.2.2.2.2.2.1 j hj z), k.2.2.2.2.2.2.1.trans h.2.2.2.2.2.2.1, k.2.2.2.2.2.2.2.trans h.2.2.2.2.2.2.2⟩
theorem sT.up {τ : Mm} {j : Nat} {x : Int32} (hj : j ≠ 3 ∧ j ≠ 6 ∧ j ≠ 8 ∧ j ≠ 12 ∧ j ≠ 19 ∧ j ≠ 15 ∧ j ≠ 16 := by decide) : sT τ (mup τ 10 j x) :=
  ⟨mup_r (by decide), mup_r (by decide), mup_r (by decide), mup_r (by decide), fun k hk => mup_j (by omega), fun k hk z => by rw [mup_j (by omega)]; exact z, mup_r (by decide), mup_r (by decide)⟩
theorem sT.rg {τ : Mm} {r j : Nat} {x : Int32} (hr : r ≠ 0 ∧ r ≠ 1 ∧ r ≠ 3 ∧ r ≠ 4 ∧ r ≠ 10 ∧ r ≠ 8 ∧ r ≠ 9 := by decide) : sT τ (mup τ r j x) :=
  ⟨mup_r (Ne.symm hr.1), mup_r (Ne.symm hr.2.1), mup_r (Ne.symm hr.2.2.1), mup_r (Ne.symm hr.2.2.2.1), fun k hk => by rw [mup_r (Ne.symm hr.2.2.2.2.1)], fun k hk z => by rw [mup_r (Ne.symm hr.2.2.2.2.1)]; exact z, mup_r (Ne.symm hr.2.2.2.2.2.2), mup_r (Ne.symm hr.2.2.2.2.2.1)⟩
theorem sS.sc3 {σ : Cs} {f : Nat → Int32} : sS σ (sc3 σ f) := ⟨⟨rfl, rfl⟩, ⟨rfl, rfl⟩, fun _ _ => ⟨rfl, rfl⟩, rfl, rfl, rfl, rfl, rfl, rfl, rfl⟩
theorem sS.wld {σ : Cs} {k : Nat} {w : Mm} (hk : k = 1 ∨ k = 3 ∨ k = 4) : sS σ (cwu σ k w) := ⟨⟨cw_cwu_n (by omega), rfl⟩, ⟨cw_cwu_n (by omega), rfl⟩, fun i hi => ⟨cw_cwu_n (by omega), rfl⟩, rfl, rfl, rfl, rfl, rfl, rfl, rfl⟩
theorem sS.lw {σ : Cs} {k : Nat} {x : Option Nat} (hk : k = 1 ∨ k = 3 ∨ k = 4) : sS σ (clu σ k x) := ⟨⟨rfl, if_neg (by omega)⟩, ⟨rfl, if_neg (by omega)⟩, fun i hi => ⟨rfl, if_neg (by omega)⟩, rfl, rfl, rfl, rfl, rfl, rfl, rfl⟩
theorem LOK.congr {Λ : Nat → Nat → (Nat → Int32) → Int32} {Λn : Nat → Int32} {x : Option Nat} {m m' : Nat → Int32} (h : LOK Λ Λn x m) (e : ∀ i, lawP i → m' i = m i) : LOK Λ Λn x m' := ⟨h.1.congr e, (e 1 (Or.inl rfl)).trans h.2⟩
theorem Sys.sc {Λ : Nat → Nat → (Nat → Int32) → Int32} {Λn : Nat → Int32} {σ σ' : Cs} {τ τ' : Mm} (h : Sys Λ Λn σ τ) (a : sS σ σ') (b : sT τ τ') : Sys Λ Λn σ' τ' := by
  obtain ⟨h1, h2, h3, h4, ⟨n, u1, u2, u3, u4⟩, ⟨ch, l, t1, t2, t3, t4⟩, h7, h8, h9, h10⟩ := h
  obtain ⟨⟨a1, a2⟩, ⟨a3, a4⟩, a5, a6, a7, a8, a9, a10, -, -⟩ := a
  obtain ⟨b1, b2, b3, b4, b5, b6, -, -⟩ := b
  refine ⟨by rw [a1]; exact h1, by rw [a1, b1]; exact h2, by rw [a2, b1]; exact h3, ?_, ⟨n, u1, a6.trans u2, (b5 6 (by omega)).trans u3, fun i hi => ?_⟩, ⟨ch, l, t1, a8.trans t2, (b5 8 (by omega)).trans t3, fun k hk => ?_⟩, by rw [a9, b5 12 (by omega)]; exact h7, (b5 19 (by omega)).trans h8, b6 15 (by omega) h9, b6 16 (by omega) h10⟩
  · rcases h4 with ⟨g1, g2⟩ | ⟨g1, g2, g3, g4, g5⟩
    · exact Or.inl ⟨a7.trans g1, (b5 3 (by omega)).trans g2⟩
    · exact Or.inr ⟨a7.trans g1, (b5 3 (by omega)).trans g2, by rw [a3]; exact g3, by rw [a3, b2]; exact g4, by rw [a4, imM_e b2 (fun i _ => by rw [b1])]; exact g5⟩
  · obtain ⟨e1, e2⟩ := a5 (5 + i) (by omega)
    rw [e1, e2, a2, b1, b3]
    exact u4 i hi
  · rw [a10, b4]
    exact t4 k hk
/-! copies of rows -/
def cpM (τ : Mm) (r off i : Nat) (g : Nat → Int32) : Mm := fun a b => if a = r ∧ off ≤ b ∧ b < off + i then g (b - off) else τ a b
theorem cpM_0 {τ : Mm} {r off : Nat} {g : Nat → Int32} : cpM τ r off 0 g = τ := by
  funext a b
  unfold cpM
  rw [if_neg (by omega)]
theorem cpM_s {τ : Mm} {r off i : Nat} {g : Nat → Int32} : mup (cpM τ r off i g) r (off + i) (g i) = cpM τ r off (i + 1) g := by
  funext a b
  unfold mup upd cpM
  by_cases ha : a = r
  · by_cases hb : b = off + i
    · subst hb
      rw [if_pos ha, if_pos rfl, if_pos ⟨ha, by omega, by omega⟩]
      congr 1
      omega
    · rw [if_pos ha, if_neg hb]
      by_cases c : off ≤ b ∧ b < off + i
      · rw [if_pos ⟨ha, c⟩, if_pos ⟨ha, c.1, by omega⟩]
      · rw [if_neg (fun g => c g.2), if_neg (fun g => c ⟨g.2.1, by omega⟩)]
  · rw [if_neg ha, if_neg (fun g => ha g.1), if_neg (fun g => ha g.1)]
theorem cpM_r {τ : Mm} {r off i q : Nat} {g : Nat → Int32} (h : q ≠ r) : cpM τ r off i g q = τ q := by
  funext b
  exact if_neg (fun k => h k.1)
theorem cpM_in {τ : Mm} {r off i b : Nat} {g : Nat → Int32} (h1 : off ≤ b) (h2 : b < off + i) : cpM τ r off i g r b = g (b - off) := if_pos ⟨rfl, h1, h2⟩
theorem cpM_out {τ : Mm} {r off i b : Nat} {g : Nat → Int32} (h : b < off ∨ off + i ≤ b) : cpM τ r off i g r b = τ r b := if_neg (fun k => by omega)
theorem cp_loop {step : Mm × Int32 → Option ((Mm × Int32) ⊕ Mm)} (τ : Mm) (r off N : Nat) (g : Nat → Int32) (hN : N < FU) (hs : ∀ i, i < N → step (cpM τ r off i g, nI i) = some (.inl (mup (cpM τ r off i g) r (off + i) (g i), nI (i + 1)))) (he : ∀ τ' : Mm, step (τ', nI N) = some (.inr τ')) : loopO step FU (τ, 0) = some (cpM τ r off N g) := by
  have := loopO_run (step := step) (ex := cpM τ r off N g) (fun i => (cpM τ r off i g, nI i)) N hN (fun i hi => by rw [hs i hi, cpM_s]) (he _)
  simp only [cpM_0] at this
  exact this
theorem T_putsAside (τ : Mm) : X7_putsAside τ = some (cpM τ 2 0 381 (τ 0)) := by
  unfold X7_putsAside
  refine ob1 (cp_loop τ 2 0 381 (τ 0) (by decide) (fun i hi => ?_) (fun τ' => ?_)) rfl
  · unfold X7_putsAside_L2
    simp only []
    rw [if_neg (show ¬ (381 : Int32) ≤ nI i from nI_ge (b := 381) hi (by decide)), cpM_r (by decide), ldN (by omega) (by decide), obs, stoN hi (by decide), obs, nI_1, obs, Nat.zero_add]
  · unfold X7_putsAside_L2
    exact if_pos (show (381 : Int32) ≤ nI 381 by decide)
theorem T_comesBack (τ : Mm) : X7_comesBack τ = some (cpM τ 0 0 381 (τ 2)) := by
  unfold X7_comesBack
  refine ob1 (cp_loop τ 0 0 381 (τ 2) (by decide) (fun i hi => ?_) (fun τ' => ?_)) rfl
  · unfold X7_comesBack_L2
    simp only []
    rw [if_neg (show ¬ (381 : Int32) ≤ nI i from nI_ge (b := 381) hi (by decide)), cpM_r (by decide), ldN hi (by decide), obs, stoN (by omega) (by decide), obs, nI_1, obs, Nat.zero_add]
  · unfold X7_comesBack_L2
    exact if_pos (show (381 : Int32) ≤ nI 381 by decide)
/-- put aside, gone on with, and come back -/
theorem T_aside {τ τb w : Mm} (h : Tr (cpM τ 2 0 381 (τ 0)) τb w) : ∃ τc, X7_comesBack τb = some τc ∧ sT τ τc ∧ τc 10 = τb 10 := by
  refine ⟨_, T_comesBack τb, ⟨?_, ?_, ?_, ?_, fun j hj => ?_, fun j hj z => ?_, by rw [cpM_r (by decide), h.2.2.1 9 (by decide) (by decide) (by decide), cpM_r (by decide)], by rw [cpM_r (by decide), h.2.2.1 8 (by decide) (by decide) (by decide), cpM_r (by decide)]⟩, cpM_r (by decide)⟩
  · funext b
    by_cases c : b < 381
    · rw [cpM_in (Nat.zero_le _) (by omega), h.2.2.1 2 (by decide) (by decide) (by decide), Nat.sub_zero, cpM_in (Nat.zero_le _) (by omega), Nat.sub_zero]
    · rw [cpM_out (by omega), h.2.1 b (Or.inr (Or.inr (by omega))), cpM_r (by decide)]
  · rw [cpM_r (by decide), h.2.2.1 1 (by decide) (by decide) (by decide), cpM_r (by decide)]
  · rw [cpM_r (by decide), h.2.2.1 3 (by decide) (by decide) (by decide), cpM_r (by decide)]
  · rw [cpM_r (by decide), h.2.2.1 4 (by decide) (by decide) (by decide), cpM_r (by decide)]
  · rw [cpM_r (by decide), h.2.2.2.1 j (by rcases hj with e | e | e | e | e <;> subst e <;> rfl), cpM_r (by decide)]
  · rw [cpM_r (by decide)]
    exact h.2.2.2.2 j hj (by rw [cpM_r (by decide)]; exact z)
/-! how a call's two sides are tied -/
def CallX (Λ : Nat → Nat → (Nat → Int32) → Int32) (Λn : Nat → Int32) (code : Nat → Int32) (x1 : Option Xo) (x7 : Option (Int32 × Mm)) : Prop := ∃ out r τ', x1 = some out ∧ x7 = some (r, τ') ∧ ((∃ σ', out = .inl (r, σ') ∧ τ' 10 0 = 0 ∧ Sys Λ Λn σ' τ') ∨ (∃ n σ', out = .inr (n, σ') ∧ τ' 10 0 = code n ∧ ¬ code n = 0 ∧ Sys Λ Λn σ' τ'))
def CallI (Λ : Nat → Nat → (Nat → Int32) → Int32) (Λn : Nat → Int32) (x1 : Option (Int32 × Cs)) (x7 : Option (Int32 × Mm)) : Prop := ∃ r σ' τ', x1 = some (r, σ') ∧ x7 = some (r, τ') ∧ Sys Λ Λn σ' τ'
/-! the law's text has been read: the reference reads it anew -/
theorem LR_of {f : Nat → FcV} {m : Nat → Int32} {ch : Nat → Nat} {E n p' : Nat} (hE : E ≤ 400) (hch : ∀ k, k < E → ch k < 256) (hn : n ≤ 12) (h0 : n = 0 → f = fun _ _ => 0) (hext : ∀ k, fExt (f k)) (hr : ∀ τ, Tw τ ch E → X7_read (td τ 0 (nI 0) (-1)) 1 = some (nI n, td (lawM τ f) p' (nI 0) (-1))) (m1 : m 1 = nI n) (m2 : m 2 = nI E) (mk : ∀ k, k < E → m (381 + k) = nI (ch k)) : LR f m := by
  refine ⟨hext, fun τ a0 a9 a10 a11 a12 a13 z1 z2 => ?_⟩
  have et : td τ 0 (nI 0) (-1) = τ := by
    have := td_self (p := 0) (τ := τ) a11
    rw [a12, a13] at this
    exact this
  have fin : ∀ q : Nat, (∀ r, r ≠ 10 → td (lawM τ f) q (nI 0) (-1) r = τ r) ∧ (∀ j, j ≠ 11 → j ≠ 12 → j ≠ 13 → j ≠ 17 → j ≠ 18 → td (lawM τ f) q (nI 0) (-1) 10 j = τ 10 j) ∧ td (lawM τ f) q (nI 0) (-1) 10 17 = τ 10 17 + (f 0 (factT τ) - f 1 (factT τ)) ∧ td (lawM τ f) q (nI 0) (-1) 10 18 = τ 10 18 + f 2 (factT τ) := by
    intro q
    refine ⟨fun r hr => by rw [td_r hr]; exact lnT_r hr, fun j b1 b2 b3 b4 b5 => by rw [td_j ⟨b1, b2, b3⟩]; exact lnT_j ⟨b4, b5⟩, by rw [td_j (by decide)]; exact lnT_17, by rw [td_j (by decide)]; exact lnT_18⟩
  by_cases c : n = 0
  · subst c
    rw [m1, if_neg (by decide)] at a10
    have hT : TB τ ch 0 := ⟨a10, by decide, fun k hk => by omega, Or.inr ⟨a9, fun k hk => by omega⟩⟩
    have e0 : skp ch 0 0 = 0 := Nat.le_zero.mp (skp_le (ch := ch) (Nat.le_refl 0))
    have h9 : X7_read (td τ 0 (nI 0) (-1)) 1 = some (nI 0, td τ 0 (nI 0) (-1)) := by
      unfold X7_read
      rw [T_skip hT, obs, td_j (by decide), a10, td_11, e0, if_pos (show (0 : Int32) ≤ nI 0 by decide)]
      unfold X7_read_J20
      have t0 : loopO (X7_read_L23 1) FU (td τ 0 (nI 0) (-1), 0, (0 : Int32)) = some (td τ 0 (nI 0) (-1), 0) := T_rdE (m := 99999) (n := 0)
      rw [t0]
      rfl
    rw [et] at h9
    have hl : lawM τ f = τ := by
      rw [h0 rfl]
      exact lawM_0 (ls := fun _ => (0, 0, fun _ => 0))
    have h8 := fin 0
    rw [hl, et] at h8
    exact ⟨_, _, h9, h8⟩
  · rw [m1, if_pos (show (1 : Int32) ≤ nI n from nI_le (a := 1) (by omega) (by omega)), m2] at a10
    have hT : Tw τ ch E := ⟨⟨a10, hE, hch, Or.inr ⟨a9, fun k hk => by rw [a0 _ (Or.inr (Or.inr (by omega)))]; exact mk k hk⟩⟩, z1, z2⟩
    have := hr τ hT
    rw [et] at this
    exact ⟨_, _, this, fin p'⟩
