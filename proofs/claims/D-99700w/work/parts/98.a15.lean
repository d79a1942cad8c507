/-! PURE: acts; what is remembered -/
theorem uk_of {σ σ' : Cs} (h1 : ∀ i, ¬ i < 5 → cw σ' i = cw σ i ∧ cl σ' i = cl σ i) (h2 : ∀ j, co σ' 9 j = co σ 9 j) : uk σ σ' = σ' := by
  obtain ⟨a, b, c, d⟩ := σ'
  have e1 : (fun i => if i < 5 then a i else cw σ i) = a := by
    funext i
    by_cases q : i < 5
    · rw [if_pos q]
    · rw [if_neg q]; exact (h1 i q).1.symm
  have e2 : (fun r j => if r = 9 then co σ r j else b r j) = b := by
    funext r j
    by_cases q : r = 9
    · subst q; rw [if_pos rfl]; exact (h2 j).symm
    · rw [if_neg q]
  have e3 : (fun i => if i < 5 then c i else cl σ i) = c := by
    funext i
    by_cases q : i < 5
    · rw [if_pos q]
    · rw [if_neg q]; exact (h1 i q).2.symm
  show ((fun i => if i < 5 then a i else cw σ i), (fun r j => if r = 9 then co σ r j else b r j), (fun i => if i < 5 then c i else cl σ i), d) = (a, b, c, d)
  rw [e1, e2, e3]
theorem uk_sc3 {σ : Cs} {f : Nat → Int32} : uk σ (sc3 σ f) = sc3 σ f := uk_of (fun _ _ => ⟨rfl, rfl⟩) (fun _ => rfl)
theorem uk_sea {σ : Cs} {f : Nat → Int32} {k : Nat} {w : Mm} (hk : k < 5) : uk σ (cwu (sc3 σ f) k w) = cwu (sc3 σ f) k w := uk_of (fun i hi => ⟨cw_cwu_n (by omega), rfl⟩) (fun _ => rfl)
section AC
variable {Λ : Nat → Nat → (Nat → Int32) → Int32} {Λn : Nat → Int32} {σ : Cs} {τ : Mm}
theorem Sys.lam (h : Sys Λ Λn σ τ) : LamOK Λ (cl σ 0) := fun a e kd s s' g => by
  have := h.2.2.1.1.1 kd s s' g
  rw [e] at this
  exact this
theorem Sys.wldT {w' τ' : Mm} (h : Sys Λ Λn σ τ) (hw : WI w') (t : Tr τ τ' w') : Sys Λ Λn (cwu σ 0 w') τ' := by
  obtain ⟨h1, h2, h3, h4, ⟨n, u1, u2, u3, u4⟩, ⟨ch, l, t1, t2, t3, t4⟩, h7, h8, h9, h10⟩ := h
  obtain ⟨b1, b2, b3, b4, b5⟩ := t
  refine ⟨by rw [cw_cwu]; exact hw, by rw [cw_cwu]; exact b1, LOK.congr h3 b2, ?_, ⟨n, u1, u2, (b4 6 rfl).trans u3, fun i hi => ?_⟩, ⟨ch, l, t1, t2, (b4 8 rfl).trans t3, fun k hk => ?_⟩, by rw [b4 12 rfl]; exact h7, (b4 19 rfl).trans h8, b5 15 (Or.inl rfl) h9, b5 16 (Or.inr rfl) h10⟩
  · rcases h4 with ⟨g1, g2⟩ | ⟨g1, g2, g3, g4, g5⟩
    · exact Or.inl ⟨g1, (b4 3 rfl).trans g2⟩
    · exact Or.inr ⟨g1, (b4 3 rfl).trans g2, by rw [cw_cwu_n (by decide)]; exact g3, by rw [cw_cwu_n (by decide), b3 1 (by decide) (by decide) (by decide)]; exact g4, by rw [imM_e (b3 1 (by decide) (by decide) (by decide)) (fun i hi => b2 i (Or.inr (Or.inr (by omega))))]; exact g5⟩
  · rw [cw_cwu_n (by omega), b3 3 (by decide) (by decide) (by decide), b2 1 (Or.inl rfl), b2 2 (Or.inr (Or.inl rfl))]
    exact u4 i hi
  · rw [b3 4 (by decide) (by decide) (by decide)]
    exact t4 k hk
theorem Sys.undT {σ' : Cs} {τ' : Mm} (h : Sys Λ Λn σ τ) (a0 : ∀ i, i < 5 → cw σ' i = cw σ i ∧ cl σ' i = cl σ i) (a1 : ∀ r, r ≠ 9 → co σ' r = co σ r) (b0 : ∀ r, r ≠ 3 → r ≠ 10 → τ' r = τ r) (b1 : ∀ j, j ≠ 6 → τ' 10 j = τ 10 j) (u : Und σ' τ') : Sys Λ Λn σ' τ' := by
  obtain ⟨h1, h2, h3, h4, -, ⟨ch, l, t1, t2, t3, t4⟩, h7, h8, h9, h10⟩ := h
  refine ⟨by rw [(a0 0 (by decide)).1]; exact h1, by rw [(a0 0 (by decide)).1, b0 0 (by decide) (by decide)]; exact h2, by rw [(a0 0 (by decide)).2, b0 0 (by decide) (by decide)]; exact h3, ?_, u, ⟨ch, l, t1, ?_, (b1 8 (by decide)).trans t3, fun k hk => ?_⟩, ?_, (b1 19 (by decide)).trans h8, by rw [b1 15 (by decide)]; exact h9, by rw [b1 16 (by decide)]; exact h10⟩
  · unfold Img
    rw [a1 0 (by decide), b1 3 (by decide)]
    rcases h4 with g | ⟨g1, g2, g3, g4, g5⟩
    · exact Or.inl g
    · exact Or.inr ⟨g1, g2, by rw [(a0 2 (by decide)).1]; exact g3, by rw [(a0 2 (by decide)).1, b0 1 (by decide) (by decide)]; exact g4, by rw [(a0 2 (by decide)).2, imM_e (b0 1 (by decide) (by decide)) (fun i _ => by rw [b0 0 (by decide) (by decide)])]; exact g5⟩
  · rw [a1 1 (by decide)]; exact t2
  · rw [a1 2 (by decide), b0 4 (by decide) (by decide)]; exact t4 k hk
  · rw [a1 1 (by decide), b1 12 (by decide)]; exact h7
/-! remembered -/
theorem T_rem50 {n : Nat} (hn : n ≤ 11) (e : τ 10 6 = nI n) : X7_remembers_J50 τ = some (mup (cpM τ 3 (381 * n) 381 (τ 0)) 10 6 (nI (n + 1))) := by
  unfold X7_remembers_J50
  refine ob1 (cp_loop τ 3 (381 * n) 381 (τ 0) (by decide) (fun i hi => ?_) (fun τ' => ?_)) ?_
  · unfold X7_remembers_L52
    simp only []
    rw [if_neg (show ¬ (381 : Int32) ≤ nI i from nI_ge (b := 381) hi (by decide)), cpM_r (by decide), ldN (by omega) (by decide), obs, cpM_r (by decide), e, show (381 : Int32) = nI 381 from rfl, pk_mul, nI_add, stoN (by omega) (by decide), obs, nI_1, obs]
  · unfold X7_remembers_L52
    exact if_pos (show (381 : Int32) ≤ nI 381 by decide)
  · rw [cpM_r (by decide), e, nI_1, obs]
theorem T_rem11 : loopO (X7_remembers_L11) FU (τ, 0) = some (cpM τ 3 0 4191 (fun k => τ 3 (k + 381))) := by
  refine cp_loop τ 3 0 4191 (fun k => τ 3 (k + 381)) (by decide) (fun i hi => ?_) (fun τ' => ?_)
  · unfold X7_remembers_L11
    simp only []
    rw [if_neg (show ¬ (4191 : Int32) ≤ nI i from nI_ge (b := 4191) hi (by decide)), show (381 : Int32) = nI 381 from rfl, nI_add, ldN (by omega) (by decide), cpM_out (by omega), obs, stoN (by omega) (by decide), obs, nI_1, obs, Nat.zero_add]
  · unfold X7_remembers_L11
    exact if_pos (show (4191 : Int32) ≤ nI 4191 by decide)
theorem Und.push {n : Nat} (hn : n ≤ 11) (e1 : co σ 9 0 = nI n) (hw : WI (cw σ 0)) (hr : WR (cw σ 0) (τ 0)) (u : ∀ i, i < n → WI (cw σ (5 + i)) ∧ WR (cw σ (5 + i)) (fun k => τ 3 (381 * i + k)) ∧ cl σ (5 + i) = cl σ 0 ∧ τ 3 (381 * i + 1) = τ 0 1 ∧ τ 3 (381 * i + 2) = τ 0 2) : Und (puU σ) (mup (cpM τ 3 (381 * n) 381 (τ 0)) 10 6 (nI (n + 1))) := by
  have ec : (co σ 9 0).toNatClampNeg = n := by rw [e1]; exact nI_clamp (by omega)
  have p0 : ∀ k, cw (puU σ) k = if k = 5 + (co σ 9 0).toNatClampNeg then cw σ 0 else cw σ k := fun _ => rfl
  have q0 : ∀ k, cl (puU σ) k = if k = 5 + (co σ 9 0).toNatClampNeg then cl σ 0 else cl σ k := fun _ => rfl
  refine ⟨n + 1, by omega, ?_, mup_s, fun i hi => ?_⟩
  · show (if (9 : Nat) = 9 ∧ (0 : Nat) = 0 then co σ 9 0 + 1 else co σ 9 0) = _
    rw [if_pos ⟨rfl, rfl⟩, e1, nI_1]
  · rw [p0, q0, q0, ec, if_neg (show ¬ 0 = 5 + n by omega), mup_r (by decide), mup_r (by decide), cpM_r (q := 0) (by decide)]
    by_cases c : i = n
    · subst c
      rw [if_pos rfl, if_pos rfl, cpM_in (by omega) (by omega), cpM_in (by omega) (by omega)]
      refine ⟨hw, hr.congr (fun k hk => ?_), rfl, by congr 1; omega, by congr 1; omega⟩
      rw [cpM_in (by omega) (by omega)]
      congr 1
      omega
    · obtain ⟨u1, u2, u3, u4, u5⟩ := u i (by omega)
      rw [if_neg (by omega), if_neg (by omega), cpM_out (by omega), cpM_out (by omega)]
      exact ⟨u1, u2.congr (fun k hk => cpM_out (by omega)), u3, u4, u5⟩
theorem S_rem (h : Sys Λ Λn σ τ) : ∃ σ' τ', X1_remembers σ = some σ' ∧ X7_remembers τ = some τ' ∧ Sys Λ Λn σ' τ' ∧ cw σ' 0 = cw σ 0 ∧ cl σ' 0 = cl σ 0 ∧ τ' 0 = τ 0 ∧ τ' 10 0 = τ 10 0 := by
  obtain ⟨n, u1, u2, u3, u4⟩ := h.2.2.2.2.1
  unfold X1_remembers X7_remembers
  rw [if_pos h.1.z, u2, u3]
  have q12 : ∀ m, m ≤ 12 → (nI m = (12 : Int32) ↔ m = 12) := fun m hm => nI_eq (b := 12) (by omega) (by decide)
  have g0 : ∀ σ1 : Cs, (co σ1 9 0).toNatClampNeg ≤ 11 → (∀ i, i < 5 → cw (puU σ1) i = cw σ1 i ∧ cl (puU σ1) i = cl σ1 i) := fun σ1 _ i hi => ⟨if_neg (by omega), if_neg (by omega)⟩
  have g1 : ∀ σ1 : Cs, ∀ r, r ≠ 9 → co (puU σ1) r = co σ1 r := fun σ1 r hr => by
    funext j
    exact if_neg (fun q => hr q.1)
  by_cases c : n = 12
  · subst c
    rw [if_pos ((q12 12 (by decide)).mpr rfl), if_pos ((q12 12 (by decide)).mpr rfl), T_rem11, obs, cpM_r (by decide), u3, obs]
    have s5 : ∀ i, i < 5 → cw (shU σ) i = cw σ i ∧ cl (shU σ) i = cl σ i := fun i hi => ⟨if_pos hi, if_pos hi⟩
    have s6 : ∀ i, cw (shU σ) (5 + i) = cw σ (5 + (i + 1)) ∧ cl (shU σ) (5 + i) = cl σ (5 + (i + 1)) := fun i => ⟨if_neg (by omega), if_neg (by omega)⟩
    have s9 : co (shU σ) 9 0 = nI 11 := show (if (9 : Nat) = 9 ∧ (0 : Nat) = 0 then (11 : Int32) else co σ 9 0) = nI 11 from if_pos ⟨rfl, rfl⟩
    have s8 : ∀ r, r ≠ 9 → co (shU σ) r = co σ r := fun r hr => by
      funext j
      exact if_neg (fun q => hr q.1)
    generalize e1 : mup (cpM τ 3 0 4191 (fun k => τ 3 (k + 381))) 10 6 (nI 12 - 1) = τ1
    have z6 : τ1 10 6 = nI 11 := by rw [← e1, mup_s]; rfl
    have zr : ∀ r, r ≠ 3 → r ≠ 10 → τ1 r = τ r := fun r a b => by rw [← e1, mup_r b, cpM_r a]
    have zj : ∀ j, j ≠ 6 → τ1 10 j = τ 10 j := fun j a => by rw [← e1, mup_j a, cpM_r (by decide)]
    have z3 : ∀ k, k < 4191 → τ1 3 k = τ 3 (k + 381) := fun k hk => by rw [← e1, mup_r (by decide), cpM_in (by omega) (by omega)]; rfl
    rw [T_rem50 (n := 11) (by decide) z6]
    refine ⟨_, _, rfl, rfl, h.undT (fun i hi => ?_) (fun r hr => (g1 _ r hr).trans (s8 r hr)) (fun r a b => ?_) (fun j a => ?_) ?_, ?_, ?_, ?_, ?_⟩
    · obtain ⟨a, b⟩ := g0 (shU σ) (by rw [s9]; decide) i hi
      exact ⟨a.trans (s5 i hi).1, b.trans (s5 i hi).2⟩
    · rw [mup_r b, cpM_r a, zr r a b]
    · rw [mup_j a, cpM_r (by decide), zj j a]
    · refine Und.push (by decide) s9 (by rw [(s5 0 (by decide)).1]; exact h.1) (by rw [(s5 0 (by decide)).1, zr 0 (by decide) (by decide)]; exact h.2.1) (fun i hi => ?_)
      obtain ⟨v1, v2, v3, v4, v5⟩ := u4 (i + 1) (by omega)
      rw [(s6 i).1, (s6 i).2, (s5 0 (by decide)).2, zr 0 (by decide) (by decide), z3 _ (by omega), z3 _ (by omega), show 381 * i + 1 + 381 = 381 * (i + 1) + 1 by omega, show 381 * i + 2 + 381 = 381 * (i + 1) + 2 by omega]
      refine ⟨v1, v2.congr (fun k hk => ?_), v3, v4, v5⟩
      rw [z3 _ (by omega)]
      congr 1
      omega
    · exact (g0 (shU σ) (by rw [s9]; decide) 0 (by decide)).1.trans (s5 0 (by decide)).1
    · exact (g0 (shU σ) (by rw [s9]; decide) 0 (by decide)).2.trans (s5 0 (by decide)).2
    · rw [mup_r (by decide), cpM_r (by decide), zr 0 (by decide) (by decide)]
    · rw [mup_j (by decide), cpM_r (by decide), zj 0 (by decide)]
  · rw [if_neg (fun q => c ((q12 n u1).mp q)), if_neg (fun q => c ((q12 n u1).mp q)), T_rem50 (n := n) (by omega) u3]
    have ec : (co σ 9 0).toNatClampNeg ≤ 11 := by rw [u2]; show tN (nI n) ≤ 11; rw [tN_nI (by omega)]; omega
    refine ⟨_, _, rfl, rfl, h.undT (g0 σ ec) (g1 σ) (fun r a b => ?_) (fun j a => ?_) (Und.push (by omega) u2 h.1 h.2.1 u4), (g0 σ ec 0 (by decide)).1, (g0 σ ec 0 (by decide)).2, ?_, ?_⟩
    · rw [mup_r b, cpM_r a]
    · rw [mup_j a, cpM_r (by decide)]
    · rw [mup_r (by decide), cpM_r (by decide)]
    · rw [mup_j (by decide), cpM_r (by decide)]
/-! salt, a bar, burnt -/
theorem S_salt (h : Sys Λ Λn σ τ) (a : Int32) : CallX Λ Λn (cdx [1]) (X1_salt σ a) (X7_salt τ a) := by
  unfold X1_salt X7_salt
  rw [in_s, isIn_s, obs, obs, X1_demand_s, obs]
  unfold X7_salt_J16
  by_cases c : inB a 0 9 = true
  · obtain ⟨σ', τ', e1, e2, hs, ew, el, et, z⟩ := S_rem (h.t0 0)
    rw [if_pos c, c, if_neg b01T, obs, if_pos t00]
    unfold X7_sets
    rw [e2, obs, show (7 : Int32) = nI 7 from rfl, ldN (by decide) (by decide), obs, stoN (by decide) (by decide), obs, obs, Option.elim_none, e1, obs, obs, obs]
    refine .ok (σ' := cwu σ' 0 (mup (cw σ' 0) 0 5 a)) (τ' := mup τ' 0 7 a) (hs.wldT (hs.1.mup (by decide) (by decide) trivial) (Tr.put hs.2.1 (r := 0) (j := 5) (by decide) a)) ?_ rfl ?_
    · rw [mup_r (by decide), z, mup_s]
    · rw [show τ' 0 7 = cw σ' 0 0 5 from (hs.2.1 0 5 (by decide)).symm]
  · rw [if_neg c, nBf c, if_pos b01F, obs, if_neg (t01 (by decide)), Option.elim_some]
    exact .er0 h rfl (by decide) rfl rfl
theorem S_seed (h : Sys Λ Λn σ τ) (a : Int32) : CallI Λ Λn (X1_seed σ a) (X7_seed τ a) := by
  unfold X1_seed X7_seed
  rw [obs, obs, obs, show (10 : Int32) = nI 10 from rfl, stoN (by decide) (by decide), mup_r (by decide), obs, obs]
  refine ⟨_, cwu σ 0 (mup (cw σ 0) 0 8 a), _, rfl, ?_, ((h.t0 0).wldT (h.1.mup (by decide) (by decide) trivial) (Tr.put (h.wr0 0) (r := 0) (j := 8) (by decide) a))⟩
  rw [show τ 0 10 = cw σ 0 0 8 from (h.2.1 0 8 (by decide)).symm]
  rfl
theorem S_bar (h : Sys Λ Λn σ τ) (a b : Int32) : CallX Λ Λn (cdx [0, 1]) (X1_bar σ a b) (X7_bar τ a b) := by
  unfold X1_bar X7_bar X7_bar_J22
  rw [X1_deedAt_s, T_isDeed h.2.1, obs, obs]
  have bad : ∀ (y : Int32) (n : Nat), cdx [0, 1] n = y → ¬ y ≤ 0 → CallX Λ Λn (cdx [0, 1]) (some (.inr (n, σ))) (X7_bar_J36 τ a b y) := by
    intro y n hy h0
    unfold X7_bar_J36
    rw [obs, if_neg (t01 h0)]
    exact .er0 h hy (fun q => h0 (by rw [q]; decide)) rfl rfl
  by_cases c : inB a 0 (cw σ 0 0 3 - 1) = true
  · obtain ⟨d, hd, rfl⟩ := inB_D h.1 c
    have hD := h.1.D.2
    rw [if_pos c, c, if_neg b01T]
    simp only [Sum.elim_inl]
    rw [obs, uk_self]
    have main : (b = -1 ∨ ∃ k, k < nD (cw σ 0) ∧ b = nI k) → CallX Λ Λn (cdx [0, 1]) (X1_bar_J15 σ (nI d) b) (X7_bar_J26 τ (nI d) b) := by
      intro hb
      unfold X1_bar_J15 X7_bar_J26 X1_bar_J25
      by_cases c2 : b < nI d
      · rw [if_neg (Int32.not_le.mpr c2), if_pos c2]
        unfold X7_bar_J36
        obtain ⟨σ', τ', e1, e2, hs, ew, el, et, z⟩ := S_rem (h.t0 0)
        rw [obs, if_pos t00]
        unfold X7_sets
        rw [e2, obs, show (6 : Int32) = nI 6 from rfl, ix_of, ldN (by omega) (by decide), obs, stoN (by omega) (by decide), obs, obs, show X1_demand 1 = some none from rfl, obs, Option.elim_none, e1, obs, ldN (by omega) (by decide), obs, stofN (by omega) (by decide), obs, obs, mset_upd]
        have hb2 : isM b d := by
          rcases hb with hb | ⟨k, hk, rfl⟩
          · exact Or.inl hb
          · exact Or.inr ⟨k, (nI_ltI (by omega) (by omega)).mp c2, rfl⟩
        have ex : wX 22 d = 45 + 12 * d + 6 := wX16 (by decide) (by decide)
        refine .ok (σ' := cwu σ' 0 (mup (cw σ' 0) 22 d b)) (τ' := mup τ' 0 (45 + 12 * d + 6) b) (hs.wldT (hs.1.mup (hr0 (by decide)) (by decide) (fun _ => hb2)) (by rw [← ex]; exact Tr.put hs.2.1 (r := 22) (j := d) (by show d < 8; omega) b)) ?_ rfl ?_
        · rw [mup_r (by decide), z, mup_s]
        · rw [show τ' 0 (45 + 12 * d + 6) = cw σ' 0 22 d from by rw [← ex]; exact (hs.2.1 22 d (by show d < 8; omega)).symm]
      · rw [if_pos (Int32.not_lt.mp c2), if_neg c2, show X1_demand 0 = some (some 1) from rfl, obs, Option.elim_some]
        exact bad 2 1 rfl (by decide)
    by_cases c1 : b = -1
    · rw [if_pos c1, if_pos c1]
      exact main (Or.inl c1)
    · rw [if_neg c1, if_neg c1, X1_deedAt_s, T_isDeed h.2.1, obs, obs]
      by_cases c3 : inB b 0 (cw σ 0 0 3 - 1) = true
      · obtain ⟨k, hk, rfl⟩ := inB_D h.1 c3
        rw [if_pos c3, c3, if_neg b01T]
        simp only [Sum.elim_inl]
        rw [obs, uk_self]
        exact main (Or.inr ⟨k, hk, rfl⟩)
      · rw [if_neg c3, nBf c3, if_pos b01F]
        simp only [Sum.elim_inr]
        rw [uk_self]
        exact bad 1 0 rfl (by decide)
  · rw [if_neg c, nBf c, if_pos b01F]
    simp only [Sum.elim_inr]
    rw [uk_self]
    exact bad 1 0 rfl (by decide)
end AC
