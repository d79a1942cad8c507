/-! PURE: jars, the calls -/
section AO
variable {Λ : Nat → Nat → (Nat → Int32) → Int32} {Λn : Nat → Int32} {σ σ' : Cs} {τ τ' : Mm} {ch : Nat → Nat} {l m : Nat}
theorem S_told (h : Sys Λ Λn σ τ) : (∃ σ' τ' ch m c, X6_told σ = some (.inl (0, σ')) ∧ X7_heard τ = some (nI c, τ') ∧ c ≤ 126 ∧ sumI (21 * nK (cw (begS σ) 0)) (fun p => b01 (fiP (begS σ) ch p m)) = nI c ∧ Both (begS σ) σ' (mup τ 10 8 0) τ' ch m ∧ Sys Λ Λn σ' τ') ∨ (∃ σ' τ', X6_told σ = some (.inr (1, σ')) ∧ X7_heard τ = some (-1, τ') ∧ Sys Λ Λn σ' τ') := by
  obtain ⟨ch, l, t1, t2, t3, t4⟩ := h.txt
  have hK := h.1.K.2
  have b12 : co (begS σ) 1 2 = nI l := t2
  have sB : Sys Λ Λn (begS σ) (mup τ 10 8 0) := h.tape (fun i _ => ⟨rfl, rfl⟩) ⟨rfl, rfl, rfl⟩ rfl ⟨mup_r (by decide), mup_r (by decide), mup_r (by decide), mup_r (by decide)⟩ (fun j hj => mup_j (by omega)) ⟨by rw [mup_j (by decide)]; exact h.2.2.2.2.2.2.2.2.1, by rw [mup_j (by decide)]; exact h.2.2.2.2.2.2.2.2.2⟩ mup_s (h.2.2.2.2.2.2.1.trans (mup_j (by decide)).symm)
  have em : nI l - nI l / 2 * 2 = nI (l % 2) := pk_rem (a := l) (d := 2) (by omega) (by decide) (by decide)
  have no30 : loopO (X7_heard_L30 (mup τ 10 8 0) (nI l)) FU (0, 0) = some 0 := by
    refine loopO_run (step := X7_heard_L30 (mup τ 10 8 0) (nI l)) (fun _ => (0, 0)) 0 (by decide) (fun i hi => absurd hi (by omega)) ?_
    unfold X7_heard_L30
    simp only []
    split
    · rfl
    · rfl
  have bad1 : X6_told_J34 (begS σ) = some (.inr (1, begS σ)) := rfl
  have bad7 : X7_heard_J26 (mup τ 10 8 0) (nI l) = some (-1, mup τ 10 8 0) := by
    unfold X7_heard_J26 X7_heard_J27
    rw [no30, obs, if_pos rfl]
  unfold X6_told X7_heard
  rw [begS_s, obs, obs, obs, b12, t3, em]
  by_cases c1 : l % 2 = 0
  · rw [c1, if_pos (show nI 0 = 0 from rfl), if_pos (show nI 0 = 0 from rfl)]
    by_cases c2 : l ≤ 40
    · have c2' : ¬ (40 : Int32) < nI l := nI_nlt (b := 40) (a := l) |> fun _ => fun q => by
        have := (nI_ltI (a := 40) (by decide) (by omega)).mp q
        omega
      rw [if_neg c2', if_neg c2']
      unfold X6_told_J35 X7_heard_J27
      rw [show X1_demand 1 = some none from rfl, obs, Option.elim_none]
      have tb : ∀ k, k < 400 → ch k < 256 ∧ co (begS σ) 2 k = sb (ch k) := fun k hk => ⟨(t4 k hk).1, (t4 k hk).2.1⟩
      have tt : ∀ k, k < 400 → ch k < 256 ∧ mup τ 10 8 0 4 k = nI (ch k) := fun k hk => ⟨(t4 k hk).1, by rw [mup_r (by decide)]; exact (t4 k hk).2.2⟩
      obtain ⟨q, e30, g30⟩ := heard30 (τ := mup τ 10 8 0) c2 tt
      rw [e30, obs]
      rcases told40 (σ := begS σ) c2 c1 b12 tb with ⟨ga, e40⟩ | ⟨ga, e40⟩
      · rcases g30 with ⟨rfl, -⟩ | ⟨rfl, gb⟩
        · left
          obtain ⟨m, rfl⟩ : ∃ m, l = 2 * m := ⟨l / 2, by omega⟩
          have wr : WR (cw (begS σ) 0) (mup τ 10 8 0 0) := sB.2.1
          obtain ⟨σ', e95, j⟩ := told95 (σ := begS σ) (τ := mup τ 10 8 0) h.1 wr
          obtain ⟨⟨τ', c⟩, e83, hh, hc⟩ := heard83 (σ := begS σ) (τ := mup τ 10 8 0) (m := m) h.1 wr (by omega) ga tt
          simp only at hh hc
          obtain ⟨n, hn, en⟩ := cnt_N (f := fun p => fiP (begS σ) ch p m) (21 * nK (cw (begS σ) 0)) (by show 21 * nK (cw σ 0) < 1000; omega)
          rw [e40, e95, if_neg (by decide), e83, obs, hc, en]
          have jc := j.cw
          have w' : WR (cw (begS σ) 0) (τ' 0) := by rw [hh.1 0 (by decide) (by decide)]; exact wr
          refine ⟨σ', τ', ch, m, n, rfl, rfl, Nat.le_trans hn (by show 21 * nK (cw σ 0) ≤ 126; omega), en, ⟨j, hh, fun p hp => fits1 (σ := begS σ) h.1 wr j (by omega) ga (by rw [jc.2.2 1 (by decide) (by decide)]; exact b12) (fun k hk => by rw [jc.2.2 2 (by decide) (by decide)]; exact tb k hk) hp, fun p t hp ht => ⟨isRead1 (σ := begS σ) h.1 wr j hp ht, isRead7 (σ := begS σ) h.1 w' hp ht (hh.2 p hp).1⟩⟩, ?_⟩
          refine h.tape (fun i _ => ⟨by rw [jc.1]; rfl, by rw [jc.2.1]; rfl⟩) ⟨by rw [jc.2.2 9 (by decide) (by decide)]; rfl, by rw [jc.2.2 0 (by decide) (by decide)]; rfl, by rw [jc.2.2 2 (by decide) (by decide)]; rfl⟩ (by rw [jc.2.2 1 (by decide) (by decide)]; rfl) ⟨by rw [hh.1 0 (by decide) (by decide), mup_r (by decide)], by rw [hh.1 1 (by decide) (by decide), mup_r (by decide)], by rw [hh.1 3 (by decide) (by decide), mup_r (by decide)], by rw [hh.1 4 (by decide) (by decide), mup_r (by decide)]⟩ (fun j hj => by rw [hh.1 10 (by decide) (by decide), mup_j (by omega)]) ⟨by rw [hh.1 10 (by decide) (by decide), mup_j (by decide)]; exact h.2.2.2.2.2.2.2.2.1, by rw [hh.1 10 (by decide) (by decide), mup_j (by decide)]; exact h.2.2.2.2.2.2.2.2.2⟩ (by rw [hh.1 10 (by decide) (by decide), mup_s]) ?_
          rw [jc.2.2 1 (by decide) (by decide), hh.1 10 (by decide) (by decide), mup_j (by decide)]
          exact h.2.2.2.2.2.2.1
        · exact absurd ga gb
      · rcases g30 with ⟨rfl, gb⟩ | ⟨rfl, gb⟩
        · exact absurd gb ga
        · rw [e40, if_pos rfl]
          exact Or.inr ⟨_, _, rfl, rfl, sB⟩
    · have c2' : (40 : Int32) < nI l := nI_lt (a := 40) (by omega) (by omega)
      rw [if_pos c2', if_pos c2', bad1, bad7]
      exact Or.inr ⟨_, _, rfl, rfl, sB⟩
  · have c1' : ¬ nI (l % 2) = 0 := fun q => c1 ((nI_eq (b := 0) (by omega) (by decide)).mp q)
    rw [if_neg c1', if_neg c1', bad1, bad7]
    exact Or.inr ⟨_, _, rfl, rfl, sB⟩
theorem S_jars (h : Sys Λ Λn σ τ) (a : Int32) : CallX Λ Λn (cdx [1]) (X1_jars σ a) (X7_jars τ a) := by
  unfold X1_jars X7_jars
  rcases S_told h with ⟨σ', τ', ch, m, c, e1, e7, hc, en, b, s⟩ | ⟨σ', τ', e1, e7, s⟩
  · rw [e1, e7, obs, obs]
    simp only [Sum.elim_inl]
    unfold X7_jars_J16
    have w' : WR (cw (begS σ) 0) (mup τ' 10 0 0 0) := by
      have := s.wr0 0
      rw [b.1.cw.1] at this
      exact this
    have hb : hrd (begS σ) (mup τ' 10 0 0) (mup τ' 10 0 0) ch m (21 * nK (cw (begS σ) 0)) := ⟨fun _ _ _ => rfl, fun p hp => by rw [mup_r (by decide), mup_r (by decide)]; exact b.2.1.2 p hp⟩
    rw [if_neg (nI_nm (by omega)), obs, if_neg (show ¬ 0 < mup τ' 10 0 0 10 0 by rw [mup_s]; decide), if_pos t00, many1 (σ := begS σ) h.1 b, inks1 (σ := begS σ) h.1 b, inks7 (σ := begS σ) (τ' := mup τ' 10 0 0) h.1 w' hb, en, obs, obs, obs]
    by_cases c2 : a = 0
    · rw [if_pos c2, if_pos c2]
      exact .ok0 s rfl rfl
    · rw [if_neg c2, if_neg c2]
      exact .ok0 s rfl rfl
  · rw [e1, e7, obs, obs, if_pos rfl]
    simp only [Sum.elim_inr]
    unfold X7_jars_J16
    rw [obs, if_pos (show 0 < mup τ' 10 0 1 10 0 by rw [mup_s]; decide), if_neg (t01 (by decide))]
    exact .er0 s rfl (by decide) rfl rfl
theorem S_ask (h : Sys Λ Λn σ τ) : CallX Λ Λn (cdx [1]) (X1_ask σ) (X7_ask τ) := by
  unfold X1_ask X7_ask
  rcases S_told h with ⟨σ', τ', ch, m, c, e1, e7, hc, en, b, s⟩ | ⟨σ', τ', e1, e7, s⟩
  · rw [e1, e7, obs, obs]
    simp only [Sum.elim_inl]
    unfold X7_ask_J16 X6_ask
    have w' : WR (cw (begS σ) 0) (mup τ' 10 0 0 0) := by
      have := s.wr0 0
      rw [b.1.cw.1] at this
      exact this
    obtain ⟨e, hK⟩ := h.1.K
    have hr6 : ∀ p, p < 21 * nK (cw σ 0) → mup τ' 10 0 0 6 p = b01 (fiP (begS σ) ch p m) := fun p hp => by rw [mup_r (by decide)]; exact (b.2.1.2 p hp).2
    have hr7 : ∀ p t, p < 21 * nK (cw σ 0) → t < 256 → X7_isRead (mup τ' 10 0 0) (nI p) (nI t) = some (b01 (rdP (begS σ) p t)) := fun p t hp ht => isRead7 (σ := begS σ) h.1 w' hp ht (by rw [mup_r (by decide)]; exact (b.2.1.2 p hp).1)
    have hr1 : ∀ p t, p < 21 * nK (cw σ 0) → t < 256 → X6_isRead σ' (nI p) (nI t) = some (b01 (rdP (begS σ) p t)) := fun p t hp ht => (b.2.2.2 p t hp ht).1
    have hf1 : ∀ p, p < 21 * nK (cw σ 0) → X6_fits σ' (nI p) = some (b01 (fiP (begS σ) ch p m)) := fun p hp => b.2.2.1 p hp
    have e4 : mup τ' 10 0 0 0 4 = nI (nK (cw σ 0)) := (w' 0 2 (by decide)).symm.trans e
    have ec : cw σ' 0 = cw σ 0 := by rw [b.1.cw.1]; rfl
    rw [if_neg (nI_nm (by omega)), obs, if_pos t00, many1 (σ := begS σ) h.1 b, en, obs]
    have fin : ∀ r : Int32, CallX Λ Λn (cdx [1]) (some (.inl (r, σ'))) (some (r, mup τ' 10 0 0)) := fun r => .ok0 s rfl rfl
    generalize mup τ' 10 0 0 = τ1 at hr6 hr7 e4 fin
    have key := loop_rel (f := X6_ask_L13 σ' (nI c)) (g := X7_ask_L37 τ1 (nI c)) (fun i (s : Int32 × Int32 × Int32) (t : Int32 × Int32 × Int32) => s.1 = t.1 ∧ s.2.2 = nI i ∧ t.2.2 = nI i ∧ (s.2.1 = t.2.1 ∨ (s.2.1 = 100000000 ∧ t.2.1 = 2000000000))) (fun x y => x = y) 61 (by decide) (fun i s t hi hr => ?_) (s0 := (-1, 100000000, 0)) (t0 := (-1, 2000000000, 0)) ⟨rfl, rfl, rfl, Or.inr ⟨rfl, rfl⟩⟩
    · obtain ⟨x, y, f1, f2, rfl⟩ := key
      rw [f1, f2, obs, obs, obs]
      exact fin _
    · obtain ⟨s1, s2, s3⟩ := s
      obtain ⟨t1, t2, t3⟩ := t
      obtain ⟨r1, r2, r3, r4⟩ := hr
      simp only at r1 r2 r3 r4
      subst r1 r2 r3
      unfold X6_ask_L13 X7_ask_L37
      simp only []
      by_cases c61 : i = 61
      · subst c61
        rw [if_pos (by decide), if_pos (by decide)]
        exact Or.inr ⟨_, _, rfl, rfl, rfl⟩
      · have c60 : ¬ (60 : Int32) < nI i := fun q => by
          have := (nI_ltI (a := 60) (b := i) (by decide) (by omega)).mp q
          omega
        rw [if_neg c60, if_neg c60]
        by_cases c1 : nI c ≤ 1
        · rw [if_pos c1, if_pos c1]
          exact Or.inr ⟨_, _, rfl, rfl, rfl⟩
        · rw [if_neg c1, if_neg c1]
          obtain ⟨y, hy, ey⟩ := cnt_N (f := fun p => fiP (begS σ) ch p m && rdP (begS σ) p i) (21 * nK (cw σ 0)) (by omega)
          have p1 : loopO (X6_partAt_L5 σ' (nI i) (nI c)) FU (0, 0) = some (nI y) := by
            rw [← ey]
            refine loop_sum (fun p => b01 (fiP (begS σ) ch p m && rdP (begS σ) p i)) (21 * nK (cw σ 0)) (by unfold FU; omega) (fun p acc hp => ?_) (fun acc => ?_)
            · unfold X6_partAt_L5
              simp only []
              rw [ec, e, show nI (nK (cw σ 0)) * (21 : Int32) = nI (nK (cw σ 0) * 21) from pk_mul _ 21, if_neg (nI_ge (by omega) (by omega)), hf1 p hp, hr1 p i hp (by omega), nI_1]
              simp only [obs]
              cases fiP (begS σ) ch p m <;> cases rdP (begS σ) p i <;> rfl
            · unfold X6_partAt_L5
              rw [ec, e, show nI (nK (cw σ 0)) * (21 : Int32) = nI (nK (cw σ 0) * 21) from pk_mul _ 21, if_pos (nI_le (by omega) (by omega))]
          have p7 : loopO (X7_ask_L55 τ1 (nI c) s1 t2 (nI i)) FU (0, 0) = some (nI y) := by
            rw [← ey]
            refine loop_sum (fun p => b01 (fiP (begS σ) ch p m && rdP (begS σ) p i)) (21 * nK (cw σ 0)) (by unfold FU; omega) (fun p acc hp => ?_) (fun acc => ?_)
            · unfold X7_ask_L55
              simp only []
              rw [e4, show (21 : Int32) * nI (nK (cw σ 0)) = nI (21 * nK (cw σ 0)) from pk_mul 21 _, if_neg (nI_ge (by omega) (by omega)), ldN (by omega) (by decide), obs, hr6 p hp, hr7 p i hp (by omega), nI_1]
              simp only [obs]
              cases fiP (begS σ) ch p m <;> cases rdP (begS σ) p i <;> rfl
            · unfold X7_ask_L55
              rw [e4, show (21 : Int32) * nI (nK (cw σ 0)) = nI (21 * nK (cw σ 0)) from pk_mul 21 _, if_pos (nI_le (by omega) (by omega))]
          unfold X6_partAt
          rw [p1, p7]
          simp only [obs, greater_s, nI_1]
          have pb : bI (if nI y < nI c - nI y then nI c - nI y else nI y) 252 := by
            split
            · rw [Int32.sub_eq_add_neg]
              exact (bI_add (bI_nI (b := 126) hc (by decide)) (bI_neg (bI_nI (b := 126) (k := y) (by omega) (by decide)) (by decide)).2 (by decide)).2
            · exact bI_nI (by omega) (by decide)
          generalize (if nI y < nI c - nI y then nI c - nI y else nI y) = v at pb
          rcases r4 with rfl | ⟨rfl, rfl⟩
          · by_cases c5 : v < s2
            · rw [if_pos c5]
              exact Or.inl ⟨_, _, rfl, rfl, by omega, rfl, rfl, rfl, Or.inl rfl⟩
            · rw [if_neg c5]
              exact Or.inl ⟨_, _, rfl, rfl, by omega, rfl, rfl, rfl, Or.inl rfl⟩
          · have v1 : v < 100000000 := by
              rw [Int32.lt_iff_toInt_lt, show (100000000 : Int32).toInt = 100000000 from rfl]
              have := pb.2
              omega
            have v2 : v < 2000000000 := Int32.lt_trans v1 (by decide)
            rw [if_pos v1, if_pos v2]
            exact Or.inl ⟨_, _, rfl, rfl, by omega, rfl, rfl, rfl, Or.inl rfl⟩
  · rw [e1, e7, obs, obs, if_pos rfl]
    simp only [Sum.elim_inr]
    unfold X7_ask_J16
    rw [obs, if_neg (t01 (by decide))]
    exact .er0 s rfl (by decide) rfl rfl
end AO
