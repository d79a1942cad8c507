/-! PURE: seasons ahead -/
theorem loop_lag {S T E F : Type} {f : S → Option (S ⊕ E)} {g : T → Option (T ⊕ F)} (R : Nat → S → T → Prop) (Q : E → F → Prop) (N : Nat) (hN : N + 1 < FU) (hs : ∀ i s t, i ≤ N → R i s t → (∃ s' t', f s = some (.inl s') ∧ g t = some (.inl t') ∧ i < N ∧ R (i + 1) s' t') ∨ (∃ e e', f s = some (.inr e) ∧ g t = some (.inr e') ∧ Q e e') ∨ ∃ e t' e', f s = some (.inr e) ∧ g t = some (.inl t') ∧ g t' = some (.inr e') ∧ Q e e') {s0 : S} {t0 : T} (h0 : R 0 s0 t0) : ∃ e e', loopO f FU s0 = some e ∧ loopO g FU t0 = some e' ∧ Q e e' := by
  have key : ∀ k n i s t, i + k = N → k + 1 < n → R i s t → ∃ e e', loopO f n s = some e ∧ loopO g n t = some e' ∧ Q e e' := by
    intro k
    induction k with
    | zero =>
      intro n i s t h1 h2 h3
      cases n with
      | zero => omega
      | succ n =>
        rcases hs i s t (by omega) h3 with ⟨s', t', -, -, h5, -⟩ | ⟨e, e', e1, e2, q⟩ | ⟨e, t', e', e1, e2, e3, q⟩
        · omega
        · refine ⟨e, e', ?_, ?_, q⟩
          · show (f s).bind _ = _
            rw [e1]
            rfl
          · show (g t).bind _ = _
            rw [e2]
            rfl
        · refine ⟨e, e', ?_, ?_, q⟩
          · show (f s).bind _ = _
            rw [e1]
            rfl
          · cases n with
            | zero => omega
            | succ n =>
              show (g t).bind _ = _
              rw [e2]
              show (g t').bind _ = _
              rw [e3]
              rfl
    | succ k ih =>
      intro n i s t h1 h2 h3
      cases n with
      | zero => omega
      | succ n =>
        rcases hs i s t (by omega) h3 with ⟨s', t', e1, e2, h5, h6⟩ | ⟨e, e', e1, e2, q⟩ | ⟨e, t', e', e1, e2, e3, q⟩
        · obtain ⟨x, y, e3, e4, q⟩ := ih n (i + 1) s' t' (by omega) (by omega) h6
          refine ⟨x, y, ?_, ?_, q⟩
          · show (f s).bind _ = _
            rw [e1]
            exact e3
          · show (g t).bind _ = _
            rw [e2]
            exact e4
        · refine ⟨e, e', ?_, ?_, q⟩
          · show (f s).bind _ = _
            rw [e1]
            rfl
          · show (g t).bind _ = _
            rw [e2]
            rfl
        · refine ⟨e, e', ?_, ?_, q⟩
          · show (f s).bind _ = _
            rw [e1]
            rfl
          · cases n with
            | zero => omega
            | succ n =>
              show (g t).bind _ = _
              rw [e2]
              show (g t').bind _ = _
              rw [e3]
              rfl
  exact key N FU 0 s0 t0 (by omega) hN h0
/-- what a season ahead needs -/
def Wo (Λ : Nat → Nat → (Nat → Int32) → Int32) (Λn : Nat → Int32) (σ : Cs) (τ : Mm) : Prop := WI (cw σ 0) ∧ WR (cw σ 0) (τ 0) ∧ LOK Λ Λn (cl σ 0) (τ 0)
def Ahd (k : Nat) (σ0 : Cs) (τ0 : Mm) (σ : Cs) (τ : Mm) : Prop := sS σ0 σ ∧ WI (cw σ k) ∧ cl σ k = cl σ0 0 ∧ Tr (cpM τ0 2 0 381 (τ0 0)) τ (cw σ k) ∧ sameC (cw σ0 0) (cw σ k)
section AG
variable {Λ : Nat → Nat → (Nat → Int32) → Int32} {Λn : Nat → Int32} {σ σ0 : Cs} {τ τ0 : Mm} {k : Nat}
theorem Sys.wo (h : Sys Λ Λn σ τ) : Wo Λ Λn σ τ := ⟨h.1, h.2.1, h.2.2.1⟩
theorem Wo.sc {σ' : Cs} {τ' : Mm} (h : Wo Λ Λn σ τ) (a : sS σ σ') (b : sT τ τ') : Wo Λ Λn σ' τ' := by
  unfold Wo
  rw [a.1.1, a.1.2, b.1]
  exact h
theorem Wo.t0 (h : Wo Λ Λn σ τ) (j : Nat) (y : Int32) : Wo Λ Λn σ (mup τ 10 j y) := by
  unfold Wo
  rw [mup_r (by decide)]
  exact h
theorem Ahd.start (h : Wo Λ Λn σ τ) (hk : k = 1 ∨ k = 3 ∨ k = 4) : ∃ σ1, clk σ k 0 = some σ1 ∧ X7_putsAside τ = some (cpM τ 2 0 381 (τ 0)) ∧ Ahd k σ τ σ1 (cpM τ 2 0 381 (τ 0)) ∧ cw σ1 k = cw σ 0 := by
  unfold clk
  rw [if_pos h.1.z]
  have e1 : cw (clu (cwu σ k (cw σ 0)) k (cl σ 0)) k = cw σ 0 := cw_cwu (σ := σ)
  have e2 : cl (clu (cwu σ k (cw σ 0)) k (cl σ 0)) k = cl σ 0 := if_pos rfl
  refine ⟨_, rfl, T_putsAside τ, ⟨(sS.wld hk).tr (sS.lw hk), by rw [e1]; exact h.1, e2, ?_, by rw [e1]; exact sameC.rf⟩, e1⟩
  rw [e1]
  exact Tr.rf (by rw [cpM_r (by decide)]; exact h.2.1)
theorem Ahd.lr (h : Wo Λ Λn σ0 τ0) (a : Ahd k σ0 τ0 σ τ) : LR (lawF Λ (cl σ k)) (τ 0) := by
  rw [a.2.2.1]
  refine h.2.2.1.congr (fun i hi => ?_)
  rw [a.2.2.2.1.2.1 i hi, cpM_r (by decide)]
theorem Ahd.lam (h : Wo Λ Λn σ0 τ0) (a : Ahd k σ0 τ0 σ τ) : LamOK Λ (cl σ k) := fun b e kd s s' g => by
  have := h.2.2.1.1 kd s s' g
  rw [← a.2.2.1, e] at this
  exact this
theorem Ahd.p (a : Ahd k σ0 τ0 σ τ) {j : Nat} (hj : scr j = false) : τ 10 j = τ0 10 j := by
  rw [a.2.2.2.1.2.2.2.1 j hj, cpM_r (by decide)]
theorem Ahd.to {w : Mm} {τ' : Mm} {f : Nat → Int32} (hk : k = 1 ∨ k = 3 ∨ k = 4) (a : Ahd k σ0 τ0 σ τ) (hw : WI w) (t : Tr τ τ' w) (s : sameC (cw σ k) w) : Ahd k σ0 τ0 (cwu (sc3 σ f) k w) τ' :=
  ⟨a.1.tr (sS.sc3.tr (sS.wld hk)), by rw [cw_cwu]; exact hw, a.2.2.1, by rw [cw_cwu]; exact a.2.2.2.1.tr t, by rw [cw_cwu]; exact a.2.2.2.2.tr s⟩
theorem Ahd.step (hk : k = 1 ∨ k = 3 ∨ k = 4) (h : Wo Λ Λn σ0 τ0) (a : Ahd k σ0 τ0 σ τ) : ∃ r σ' τ', X1_aSeason Λ σ k (τ0 10 19) = some (r, σ') ∧ X7_passes τ 0 = some (r, τ') ∧ Ahd k σ0 τ0 σ' τ' := by
  obtain ⟨f, e1⟩ := X1_aSeason_s (τ0 10 19) a.2.1 (a.lam h)
  obtain ⟨⟨r, τ'⟩, e2, er, t⟩ := T_passesQ a.2.2.2.1.1 a.2.1 (a.lr h)
  rw [a.p (j := 19) rfl] at er t
  simp only at er t
  subst er
  have w1 := wi_seaW a.2.1 (lawF Λ (cl σ k)) (τ0 10 19)
  exact ⟨_, _, τ', e1, e2, a.to hk w1.1 t w1.2⟩
theorem Ahd.stepD (hk : k = 1 ∨ k = 3 ∨ k = 4) (h : Wo Λ Λn σ0 τ0) (a : Ahd k σ0 τ0 σ τ) : ∃ r σ' τ', X1_drawnSeason Λ σ k = some (r, σ') ∧ X7_passes τ 1 = some (r, τ') ∧ Ahd k σ0 τ0 σ' τ' := by
  obtain ⟨f, e1⟩ := X1_drawn_s a.2.1 (a.lam h)
  obtain ⟨⟨r, τ'⟩, e2, er, t⟩ := T_passesD a.2.2.2.1.1 a.2.1 (a.lr h)
  simp only at er t
  subst er
  have w1 := wi_dseW a.2.1 (lawF Λ (cl σ k))
  exact ⟨_, _, τ', e1, e2, a.to hk w1.1 t w1.2⟩
theorem Ahd.back (a : Ahd k σ0 τ0 σ τ) : ∃ τc, X7_comesBack τ = some τc ∧ sT τ0 τc ∧ τc 10 0 = τ0 10 0 := by
  obtain ⟨τc, e1, e2, e3⟩ := T_aside a.2.2.2.1
  exact ⟨τc, e1, e2, by rw [e3]; exact a.p rfl⟩
/-! the first number of seasons by which something of a deed is not as at first -/
theorem S_first {fs : Cs × Int32 → Option ((Cs × Int32) ⊕ ((Cs × Int32) ⊕ Cs))} {r d : Nat} {wh wo : Int32} (hr : r ≠ 0) (h : Wo Λ Λn σ0 τ0) (hd : d < nD (cw σ0 0)) (hf : ∀ w, fs w = if (80 : Int32) < w.2 then some (.inr (.inr w.1)) else (ld 8 (cw w.1 3 r) (nI d)).bind fun x => if x = wo then (X1_aSeason Λ w.1 3 (τ0 10 19)).bind fun y => (some (w.2 + 1)).bind fun v => some (.inl (y.2, v)) else some (.inr (.inl (w.1, w.2)))) (ho : ∀ (t w : Mm), WR w (t 0) → X7_of t (nI d) wh = some (w r d)) (a : Ahd 3 σ0 τ0 σ τ) : ∃ e e', loopO fs FU (σ, 0) = some e ∧ loopO (X7_firstBy_L10 (nI d) wh wo) FU (τ, -1, 0) = some e' ∧ ∃ σ', Ahd 3 σ0 τ0 σ' e'.1 ∧ sS σ0 (Sum.elim (fun x => x.1) (fun x => x) e) ∧ ((∃ n, n ≤ 80 ∧ ∃ s, e = .inl (s, nI n) ∧ e'.2 = nI n) ∨ (∃ s, e = .inr s ∧ e'.2 = -1)) := by
  refine loop_lag (f := fs) (g := X7_firstBy_L10 (nI d) wh wo) (fun i (s : Cs × Int32) (t : Mm × Int32 × Int32) => s.2 = nI i ∧ t.2.1 = -1 ∧ t.2.2 = nI i ∧ Ahd 3 σ0 τ0 s.1 t.1) (fun e (e' : Mm × Int32) => ∃ σ', Ahd 3 σ0 τ0 σ' e'.1 ∧ sS σ0 (Sum.elim (fun x => x.1) (fun x => x) e) ∧ ((∃ n, n ≤ 80 ∧ ∃ s, e = .inl (s, nI n) ∧ e'.2 = nI n) ∨ (∃ s, e = .inr s ∧ e'.2 = -1))) 81 (by decide) (fun i s t hi hr => ?_) (s0 := (σ, 0)) (t0 := (τ, -1, 0)) ⟨rfl, rfl, rfl, a⟩
  obtain ⟨s1, s2⟩ := s
  obtain ⟨t1, t2, t3⟩ := t
  obtain ⟨r1, r2, r3, r4⟩ := hr
  simp only at r1 r2 r3 r4
  subst r1 r2 r3
  rw [hf]
  unfold X7_firstBy_L10
  simp only []
  by_cases c : i = 81
  · subst c
    rw [if_pos (by decide), if_pos (by decide)]
    exact Or.inr (Or.inl ⟨_, _, rfl, rfl, s1, r4, r4.1, Or.inr ⟨s1, rfl, rfl⟩⟩)
  · have c80 : ¬ (80 : Int32) < nI i := fun q => by
      have := (nI_ltI (a := 80) (b := i) (by decide) (by omega)).mp q
      omega
    have hD := r4.2.1.D.2
    have hdD : d < nD (cw s1 3) := by rw [r4.2.2.2.2.2.2]; exact hd
    rw [if_neg c80, if_neg c80, if_pos trivial, ldN (by omega) (by decide), ho t1 _ r4.2.2.2.1.1, obs, obs]
    obtain ⟨q, s', t', f1, f2, f3⟩ := r4.step (Or.inr (Or.inl rfl)) h
    rw [f1, f2]
    simp only [obs, nI_1]
    by_cases c2 : cw s1 3 r d = wo
    · rw [if_pos c2, if_pos c2]
      exact Or.inl ⟨_, _, rfl, rfl, by omega, rfl, rfl, rfl, f3⟩
    · rw [if_neg c2, if_neg c2]
      refine Or.inr (Or.inr ⟨_, _, (t', nI i), rfl, rfl, ?_, s', f3, r4.1, Or.inl ⟨i, by omega, s1, rfl, rfl⟩⟩)
      rw [if_neg (nI_nm (by omega))]
      split <;> rfl
theorem S_first0 {r d : Nat} {wh wo : Int32} (h : Wo Λ Λn σ0 τ0) (hd : d < nD (cw σ0 0)) (ho : ∀ (t w : Mm), WR w (t 0) → X7_of t (nI d) wh = some (w r d)) (a : Ahd 3 σ0 τ0 σ τ) (hn : ¬ cw σ 3 r d = wo) : ∃ e' σ', loopO (X7_firstBy_L10 (nI d) wh wo) FU (τ, -1, 0) = some e' ∧ e'.2 = 0 ∧ Ahd 3 σ0 τ0 σ' e'.1 := by
  have key : Rn (loopO (X7_firstBy_L10 (nI d) wh wo) FU (τ, -1, 0)) (fun e' => e'.2 = 0 ∧ ∃ σ', Ahd 3 σ0 τ0 σ' e'.1) := by
    refine loopO_inv (fun i t => (i = 0 ∧ t = (τ, -1, 0)) ∨ (i = 1 ∧ t.2.1 = 0 ∧ t.2.2 = nI 1 ∧ ∃ σ', Ahd 3 σ0 τ0 σ' t.1)) _ 1 (by decide) (fun i t hi ht => ?_) (Or.inl ⟨rfl, rfl⟩)
    rcases ht with ⟨rfl, rfl⟩ | ⟨rfl, h1, h2, h3⟩
    · unfold X7_firstBy_L10
      simp only []
      obtain ⟨q, s', t', f1, f2, f3⟩ := a.step (Or.inr (Or.inl rfl)) h
      rw [if_neg (by decide), if_pos trivial, ho τ _ a.2.2.2.1.1, f2]
      simp only [obs]
      rw [if_neg hn]
      exact Rn.mk (Or.inl ⟨_, rfl, by decide, Or.inr ⟨trivial, rfl, rfl, s', f3⟩⟩)
    · unfold X7_firstBy_L10
      rw [h1, h2, if_neg (by decide), if_neg (by decide)]
      exact Rn.mk (Or.inr ⟨_, rfl, rfl, h3⟩)
  obtain ⟨e', e1, e2, σ', e3⟩ := key
  exact ⟨e', σ', e1, e2, e3⟩
theorem S_whenOf (h : Wo Λ Λn σ τ) {d : Nat} (hd : d < nD (cw σ 0)) : ∃ r σ' τ', X1_whenOf Λ σ (nI d) (τ 10 19) = some (r, σ') ∧ X7_whenOf τ (nI d) = some (r, τ') ∧ sS σ σ' ∧ sT τ τ' ∧ τ' 10 0 = τ 10 0 ∧ (r = -1 ∨ ∃ n, n ≤ 80 ∧ r = nI n) := by
  have hD := h.1.D.2
  have ho : ∀ (t w : Mm), WR w (t 0) → X7_of t (nI d) 9 = some (w 25 d) := fun t w hw => T_of9 hw (by omega)
  obtain ⟨σ1, e1, e2, a, ek⟩ := Ahd.start h (k := 3) (Or.inr (Or.inl rfl))
  unfold X1_whenOf X7_whenOf X7_firstBy
  rw [ldN (by omega) (by decide), obs, e1, e2, obs]
  by_cases c : cw σ 0 25 d = -1
  · obtain ⟨e, e', f1, f2, σ', f3, f4, f5⟩ := S_first (fs := X1_whenOf_L29 Λ (nI d) (τ 10 19)) (r := 25) (wo := -1) (by decide) h hd (fun w => rfl) ho a
    obtain ⟨τc, b1, b2, b3⟩ := f3.back
    rw [if_pos c, obs, f1, f2, obs, obs, b1, obs, obs]
    rcases f5 with ⟨n, hn, s, rfl, en⟩ | ⟨s, rfl, en⟩
    · exact ⟨_, _, _, rfl, by rw [en], f4, b2, b3, Or.inr ⟨n, hn, rfl⟩⟩
    · exact ⟨_, _, _, rfl, by rw [en], f4, b2, b3, Or.inl rfl⟩
  · obtain ⟨e', σ', f2, en, f3⟩ := S_first0 (r := 25) (wo := -1) h hd ho a (by rw [ek]; exact c)
    obtain ⟨τc, b1, b2, b3⟩ := f3.back
    rw [if_neg c, obs, f2, obs, b1, obs, obs]
    exact ⟨_, _, _, rfl, by rw [en], sS.rf, b2, b3, Or.inr ⟨0, by decide, rfl⟩⟩
theorem S_when (h : Sys Λ Λn σ τ) (a : Int32) : CallX Λ Λn (cdx [0]) (X1_when Λ σ a) (X7_when τ a) := by
  unfold X1_when X7_when X7_when_J14
  rw [X1_deedAt_s, T_isDeed h.2.1, obs, obs]
  by_cases c : inB a 0 (cw σ 0 0 3 - 1) = true
  · obtain ⟨d, hd, rfl⟩ := inB_D h.1 c
    have h1 := h.t0 0
    obtain ⟨r, σ', τ', e1, e2, s1, s2, z, -⟩ := S_whenOf h1.wo hd
    rw [h1.2.2.2.2.2.2.2.1] at e1
    rw [if_pos c, c, if_neg b01T, obs, if_pos t00, e2, obs]
    simp only [Sum.elim_inl]
    rw [e1, obs]
    exact .ok (h1.sc s1 s2) (z.trans mup_s) rfl rfl
  · rw [if_neg c, nBf c, if_pos b01F, obs, if_neg (t01 (by decide))]
    simp only [Sum.elim_inr]
    exact .er0 h rfl (by decide) rfl rfl
theorem S_worldAt (h : Wo Λ Λn σ τ) (h19 : τ 10 19 = 0) {n : Nat} (hn : n ≤ 80) : ∃ σ' q, X1_worldAt Λ σ (nI n) = some σ' ∧ X7_goes (cpM τ 2 0 381 (τ 0)) (nI n) 0 = some q ∧ Ahd 3 σ τ σ' q.2 := by
  obtain ⟨σ1, e1, e2, a, ek⟩ := Ahd.start h (k := 3) (Or.inr (Or.inl rfl))
  unfold X1_worldAt X7_goes
  rw [e1, obs]
  have key := loop_rel (f := X1_worldAt_L14 Λ (nI n)) (g := X7_goes_L5 (nI n) 0) (fun i (s : Cs × Int32) (t : Mm × Int32 × Int32) => s.2 = nI i ∧ t.2.2 = nI i ∧ Ahd 3 σ τ s.1 t.1) (fun x y => Ahd 3 σ τ x y.1) n (by unfold FU; omega) (fun i s t hi hr => ?_) (s0 := (σ1, 0)) (t0 := (cpM τ 2 0 381 (τ 0), 0, 0)) ⟨rfl, rfl, a⟩
  · obtain ⟨x, y, f1, f2, q⟩ := key
    rw [f1, f2, obs, obs]
    exact ⟨_, _, rfl, rfl, q⟩
  · obtain ⟨s1, s2⟩ := s
    obtain ⟨t1, t2, t3⟩ := t
    obtain ⟨r1, r2, r3⟩ := hr
    simp only at r1 r2 r3
    subst r1 r2
    unfold X1_worldAt_L14 X7_goes_L5
    simp only []
    rcases Nat.lt_or_ge i n with hlt | hge
    · obtain ⟨q, s', t', f1, f2, f3⟩ := r3.step (Or.inr (Or.inl rfl)) h
      rw [h19] at f1
      rw [if_neg (nI_ge hlt (by omega)), if_neg (nI_ge hlt (by omega)), f1, f2]
      simp only [obs, nI_1]
      exact Or.inl ⟨_, _, rfl, rfl, hlt, rfl, rfl, f3⟩
    · have : i = n := by omega
      subst this
      rw [if_pos (nI_le (Nat.le_refl _) (by omega)), if_pos (nI_le (Nat.le_refl _) (by omega))]
      exact Or.inr ⟨_, _, rfl, rfl, r3⟩
theorem S_due (h : Sys Λ Λn σ τ) (a : Int32) : CallX Λ Λn (cdx [0]) (X1_due Λ σ a) (X7_due τ a) := by
  unfold X1_due X7_due X7_due_J14
  rw [X1_deedAt_s, T_isDeed h.2.1, obs, obs]
  by_cases c : inB a 0 (cw σ 0 0 3 - 1) = true
  · obtain ⟨d, hd, rfl⟩ := inB_D h.1 c
    have h1 := h.t0 0
    have hD := h.1.D.2
    have h19 := h1.2.2.2.2.2.2.2.1
    have ho : ∀ (t w : Mm), WR w (t 0) → X7_of t (nI d) 11 = some (w 15 d) := fun t w hw => T_of11 hw (by omega)
    obtain ⟨σ1, q, e1, e2, b⟩ := S_worldAt h1.wo h19 (n := 0) (by decide)
    have hq : q = (0, cpM (mup τ 10 0 0) 2 0 381 (mup τ 10 0 0 0)) := by
      unfold X7_goes at e2
      rw [show loopO (X7_goes_L5 (nI 0) 0) FU (cpM (mup τ 10 0 0) 2 0 381 (mup τ 10 0 0 0), 0, 0) = some (cpM (mup τ 10 0 0) 2 0 381 (mup τ 10 0 0 0), 0) from loopO_run (step := X7_goes_L5 (nI 0) 0) (fun _ => (cpM (mup τ 10 0 0) 2 0 381 (mup τ 10 0 0 0), 0, 0)) 0 (by decide) (fun i hi => absurd hi (by omega)) rfl, obs] at e2
      exact (Option.some.inj e2).symm
    rw [hq] at b
    have bb : Ahd 3 σ (mup τ 10 0 0) σ1 (cpM (mup τ 10 0 0) 2 0 381 (mup τ 10 0 0 0)) := b
    rw [if_pos c, c, if_neg b01T, obs, if_pos t00]
    simp only [Sum.elim_inl]
    have e1' : X1_worldAt Λ σ 0 = some σ1 := e1
    rw [e1', obs]
    obtain ⟨e, e', f1, f2, σ', f3, f4, f5⟩ := S_first (fs := X1_due_L13 Λ (nI d)) (r := 15) (wo := 0) (by decide) h1.wo hd (fun w => by rw [h19]; rfl) ho bb
    obtain ⟨τc, b1, b2, b3⟩ := f3.back
    unfold X7_firstBy
    rw [f1, obs, T_putsAside, obs, f2, obs, b1, obs, obs]
    rcases f5 with ⟨n, hn, s, rfl, en⟩ | ⟨s, rfl, en⟩
    · exact .ok (h1.sc f4 b2) (b3.trans mup_s) rfl (by rw [en])
    · exact .ok (h1.sc f4 b2) (b3.trans mup_s) rfl (by rw [en])
  · rw [if_neg c, nBf c, if_pos b01F, obs, if_neg (t01 (by decide))]
    simp only [Sum.elim_inr]
    exact .er0 h rfl (by decide) rfl rfl
end AG
