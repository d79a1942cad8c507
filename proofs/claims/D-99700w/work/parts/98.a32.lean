/-! PURE: the tape is fed -/
def bX (v : Int32) (s : Nat) : Nat := tN ((v.toUInt32 >>> ((nI s).toUInt32 &&& Int32.toUInt32 31)).toInt32 &&& 255)
theorem and_255 (x : Int32) : ∃ c, c < 256 ∧ x &&& 255 = nI c := by
  refine ⟨(x.toBitVec &&& 255#32).toNat, ?_, ?_⟩
  · rw [BitVec.toNat_and]
    exact Nat.lt_of_le_of_lt Nat.and_le_right (by decide)
  · apply Int32.toBitVec_inj.mp
    show x.toBitVec &&& 255#32 = BitVec.ofNat 32 _
    rw [BitVec.ofNat_toNat, BitVec.setWidth_eq]
theorem bX_s (v : Int32) (s : Nat) : (v.toUInt32 >>> ((nI s).toUInt32 &&& Int32.toUInt32 31)).toInt32 &&& 255 = nI (bX v s) ∧ bX v s < 256 := by
  obtain ⟨c, h1, h2⟩ := and_255 ((v.toUInt32 >>> ((nI s).toUInt32 &&& Int32.toUInt32 31)).toInt32)
  unfold bX
  rw [h2, tN_nI (by omega)]
  exact ⟨rfl, h1⟩
theorem sb_8 : ∀ c, c < 256 → (nI c).toInt8.toInt32 = sb c := by decide +kernel
theorem bX_8 (v : Int32) {s : Nat} (hs : s ≤ 24) : ((v >>> (nI s &&& 31)).toInt8.toInt32) = sb (bX v s) := by
  obtain ⟨e, hc⟩ := bX_s v s
  rw [← sb_8 _ hc]
  congr 1
  apply Int8.toBitVec_inj.mp
  show (v >>> (nI s &&& 31)).toBitVec.signExtend 8 = (nI (bX v s)).toBitVec.signExtend 8
  apply BitVec.eq_of_getLsbD_eq
  intro i hi
  rw [BitVec.getLsbD_signExtend, BitVec.getLsbD_signExtend, if_pos (by omega), if_pos (by omega)]
  congr 1
  show bt (v >>> (nI s &&& 31)) i = bt (nI (bX v s)) i
  rw [← e, b_and, b_255, b_ushr s (by omega), b_sshr s (by omega) v (by omega), if_pos (by omega), decide_eq_true hi, Bool.and_true]
def shI (i : Nat) : Int32 := 24 - nI (8 * i)
theorem shI_s : ∀ i, i < 4 → ¬ shI i < 0 ∧ shI i = nI (24 - 8 * i) ∧ shI i + -8 = shI (i + 1) := by decide +kernel
def fdF (σ : Cs) (l : Nat) (g : Nat → Nat) (j : Nat) : Nat → Int32 := fun k => if l ≤ k ∧ k < l + j then sb (g (k - l)) else co σ 2 k
def fdS (σ : Cs) (l : Nat) (g : Nat → Nat) (j : Nat) : Cs := cou σ (mup (mset (co σ) 2 (fdF σ l g j)) 1 1 (nI (l + j)))
theorem fdF_s {σ : Cs} {l j : Nat} {g : Nat → Nat} : upd (fdF σ l g j) (l + j) (sb (g j)) = fdF σ l g (j + 1) := by
  funext k
  unfold upd fdF
  by_cases c : k = l + j
  · subst c
    rw [if_pos rfl, if_pos ⟨by omega, by omega⟩]
    congr 2
    omega
  · rw [if_neg c]
    by_cases d : l ≤ k ∧ k < l + j
    · rw [if_pos d, if_pos ⟨d.1, by omega⟩]
    · rw [if_neg d, if_neg (fun q => d ⟨q.1, by omega⟩)]
theorem fdS_0 {σ : Cs} {l : Nat} {g : Nat → Nat} (h : co σ 1 1 = nI l) : fdS σ l g 0 = σ := by
  have e1 : fdF σ l g 0 = co σ 2 := by
    funext k
    exact if_neg (by omega)
  unfold fdS
  rw [e1, Nat.add_zero, ← h]
  obtain ⟨a, b, c⟩ := σ
  show (a, mup (mset b 2 (b 2)) 1 1 (b 1 1), c) = (a, b, c)
  congr 2
  funext r k
  by_cases q : r = 1
  · subst q
    by_cases q2 : k = 1
    · subst q2; rw [mup_s]
    · rw [mup_j q2, mset_r (by decide)]
  · rw [mup_r q]
    by_cases q2 : r = 2
    · subst q2; rw [mset_e]
    · rw [mset_r q2]
theorem fdS_s {σ : Cs} {l j : Nat} {g : Nat → Nat} (hl : l + j < 400) {v : Int32} {s : Nat} (hs : s ≤ 24) (hg : bX v s = g j) {c4 : Int32} {f5 : Nat → Int32} {i : Nat} (hi : i < 4) (hsi : s = 24 - 8 * i) : X3_add_L39 f5 c4 v (fdS σ l g j, shI i) = some (.inl (fdS σ l g (j + 1), shI (i + 1))) := by
  obtain ⟨s1, s2, s3⟩ := shI_s i hi
  unfold X3_add_L39
  simp only []
  rw [if_neg s1, s3, s2, ← hsi, bX_8 v hs, hg]
  have e2 : co (fdS σ l g j) 2 = fdF σ l g j := by
    unfold fdS
    rw [co_cou, mup_r (by decide), mset_e]
  have e1 : co (fdS σ l g j) 1 1 = nI (l + j) := by
    unfold fdS
    rw [co_cou, mup_s]
  rw [e2, e1, stofN hl (by decide), obs, fdF_s, obs, obs, obs]
  have e3 : cou (cou (fdS σ l g j) (mset (co (fdS σ l g j)) 2 (fdF σ l g (j + 1)))) (mup (co (cou (fdS σ l g j) (mset (co (fdS σ l g j)) 2 (fdF σ l g (j + 1))))) 1 1 (co (cou (fdS σ l g j) (mset (co (fdS σ l g j)) 2 (fdF σ l g (j + 1)))) 1 1 + 1)) = fdS σ l g (j + 1) := by
    show cou σ _ = cou σ _
    congr 1
    funext r k
    rw [co_cou, mset_r (show (1 : Nat) ≠ 2 by decide), e1, nI_1]
    by_cases q : r = 1
    · subst q
      by_cases q2 : k = 1
      · subst q2; rw [mup_s, mup_s]; rfl
      · rw [mup_j q2, mup_j q2, mset_r (by decide), mset_r (by decide)]
        show mup (mset (co σ) 2 _) 1 1 _ 1 k = _
        rw [mup_j q2, mset_r (by decide)]
    · rw [mup_r q, mup_r q]
      by_cases q2 : r = 2
      · subst q2; rw [mset_e, mset_e]
      · rw [mset_r q2, mset_r q2]
        show mup (mset (co σ) 2 _) 1 1 _ r k = _
        rw [mup_r q, mset_r q2]
  rw [e3]
section AU2
variable {Λ : Nat → Nat → (Nat → Int32) → Int32} {Λn : Nat → Int32} {σ : Cs} {τ : Mm}
def fdG (f : Nat → Int32) (j : Nat) : Nat := bX (f (j / 4)) (24 - 8 * (j % 4))
theorem X3_add_s {f : Nat → Int32} {l : Nat} (hl : l + 20 ≤ 400) (h : co σ 1 1 = nI l) : X3_add f σ = some (nI (l + 20), fdS σ l (fdG f) 20) := by
  unfold X3_add
  rw [h, show nI l + 20 = nI (l + 20) from nI_add l 20, if_pos (show nI (l + 20) ≤ (400 : Int32) from nI_le (b := 400) hl (by decide))]
  have outer : loopO (X3_add_L23 f) FU (σ, 0) = some (fdS σ l (fdG f) 20) := by
    have := loopO_run (step := X3_add_L23 f) (fun n => (fdS σ l (fdG f) (4 * n), nI n)) 5 (by decide) (fun n hn => ?_) (ex := fdS σ l (fdG f) 20) ?_
    · simp only [Nat.mul_zero, fdS_0 h] at this
      exact this
    · have inner : loopO (X3_add_L39 f (nI n) (f n)) FU (fdS σ l (fdG f) (4 * n), 24) = some (fdS σ l (fdG f) (4 * n + 4)) := by
        refine loopO_run (step := X3_add_L39 f (nI n) (f n)) (fun i => (fdS σ l (fdG f) (4 * n + i), shI i)) 4 (by decide) (fun i hi => ?_) ?_
        · refine fdS_s (by omega) (s := 24 - 8 * i) (by omega) ?_ hi rfl
          unfold fdG
          rw [show (4 * n + i) / 4 = n by omega, show (4 * n + i) % 4 = i by omega]
        · unfold X3_add_L39
          exact if_pos (show shI 4 < 0 by decide)
      unfold X3_add_L23
      simp only []
      rw [if_neg (show ¬ (5 : Int32) ≤ nI n from nI_ge (b := 5) hn (by decide)), ldN (by omega) (by decide), obs, inner, obs, nI_1, obs]
      rfl
    · unfold X3_add_L23
      exact if_pos (show (5 : Int32) ≤ nI 5 by decide)
  rw [outer, obs]
  have e1 : co (fdS σ l (fdG f) 20) 1 1 = nI (l + 20) := by
    unfold fdS
    rw [co_cou, mup_s]
  rw [e1]
theorem S_feed (h : Sys Λ Λn σ τ) (a b c d e : Int32) : CallI Λ Λn (X1_feed σ a b c d e) (X7_feed τ a b c d e) := by
  have h0 := h.t0 0
  unfold X1_feed X7_feed
  rw [obs]
  generalize mup τ 10 0 0 = τ0 at h0
  obtain ⟨h1, h2, h3, h4, ⟨n, u1, u2, u3, u4⟩, ⟨ch, l, t1, t2, t3, t4⟩, h7, h8, h9, h10⟩ := id h0
  rw [t3, show nI l + 20 = nI (l + 20) from nI_add l 20]
  by_cases cl0 : l + 20 ≤ 400
  · rw [if_pos (show nI (l + 20) ≤ (400 : Int32) from nI_le (b := 400) cl0 (by decide)), X3_add_s cl0 t2]
    generalize ef : f5v a b c d e = f
    have cm : ∀ j x y, mup (mup (mup (cpM τ0 4 l j (fun k => nI (fdG f k))) 10 8 x) 4 (l + j) (nI (fdG f j))) 10 8 y = mup (cpM τ0 4 l (j + 1) (fun k => nI (fdG f k))) 10 8 y := by
      intro j x y
      rw [← cpM_s]
      funext r k
      by_cases q : r = 10
      · subst q
        by_cases q2 : k = 8
        · subst q2; rw [mup_s, mup_s]
        · rw [mup_j q2, mup_r (by decide), mup_j q2, mup_j q2, mup_r (by decide)]
      · rw [mup_r q, mup_r q]
        by_cases q3 : r = 4
        · subst q3
          by_cases q4 : k = l + j
          · subst q4; rw [mup_s, mup_s]
          · rw [mup_j q4, mup_j q4, mup_r (by decide)]
        · rw [mup_r q3, mup_r q3, mup_r q]
    have lp : loopO (X7_feed_L23 a b c d e) FU (τ0, 0) = some (mup (cpM τ0 4 l 20 (fun k => nI (fdG f k))) 10 8 (nI (l + 20))) := by
      have := loopO_run (step := X7_feed_L23 a b c d e) (fun j => (mup (cpM τ0 4 l j (fun k => nI (fdG f k))) 10 8 (nI (l + j)), nI j)) 20 (by decide) (fun j hj => ?_) (ex := mup (cpM τ0 4 l 20 (fun k => nI (fdG f k))) 10 8 (nI (l + 20))) ?_
      · have e0 : mup (cpM τ0 4 l 0 (fun k => nI (fdG f k))) 10 8 (nI (l + 0)) = τ0 := by
          rw [cpM_0, Nat.add_zero, ← t3]
          funext r k
          by_cases q : r = 10
          · subst q
            by_cases q2 : k = 8
            · subst q2; rw [mup_s]
            · rw [mup_j q2]
          · rw [mup_r q]
        simp only [e0] at this
        exact this
      · have em : nI j - nI j / 4 * 4 = nI (j % 4) := pk_rem (a := j) (d := 4) (by omega) (by decide) (by decide)
        have esh : (24 : Int32) - 8 * nI (j % 4) = nI (24 - 8 * (j % 4)) := (by decide : ∀ r, r < 4 → (24 : Int32) - 8 * nI r = nI (24 - 8 * r)) _ (Nat.mod_lt _ (by decide))
        have j76 : ∀ y, y = f (j / 4) → X7_feed_J23_76 (mup (cpM τ0 4 l j (fun k => nI (fdG f k))) 10 8 (nI (l + j))) a b c d e (nI j) y = some (.inl (mup (cpM τ0 4 l (j + 1) (fun k => nI (fdG f k))) 10 8 (nI (l + (j + 1))), nI (j + 1))) := by
          intro y hy
          unfold X7_feed_J23_76
          rw [em, esh, (bX_s y _).1, mup_s, stoN (by omega) (by decide), obs, mup_r (show (10 : Nat) ≠ 4 by decide), mup_s, nI_1, obs, nI_1, obs, hy, show bX (f (j / 4)) (24 - 8 * (j % 4)) = fdG f j from rfl, cm]
          rfl
        have le : ∀ m : Nat, m < 100 → (nI m ≤ nI j ↔ m ≤ j) := fun m hm => nI_leI (by omega) (by omega)
        unfold X7_feed_L23
        simp only []
        rw [if_neg (show ¬ (20 : Int32) ≤ nI j from nI_ge (b := 20) hj (by decide))]
        rw [← ef] at j76
        by_cases c4 : 4 ≤ j
        · rw [if_pos (show (4 : Int32) ≤ nI j from (le 4 (by decide)).mpr c4)]
          by_cases c8 : 8 ≤ j
          · rw [if_pos (show (8 : Int32) ≤ nI j from (le 8 (by decide)).mpr c8)]
            by_cases c12 : 12 ≤ j
            · rw [if_pos (show (12 : Int32) ≤ nI j from (le 12 (by decide)).mpr c12)]
              by_cases c16 : 16 ≤ j
              · rw [if_pos (show (16 : Int32) ≤ nI j from (le 16 (by decide)).mpr c16), ← ef]
                exact j76 e (by rw [show j / 4 = 4 by omega]; rfl)
              · rw [if_neg (show ¬ (16 : Int32) ≤ nI j from fun q => c16 ((le 16 (by decide)).mp q)), ← ef]
                exact j76 d (by rw [show j / 4 = 3 by omega]; rfl)
            · rw [if_neg (show ¬ (12 : Int32) ≤ nI j from fun q => c12 ((le 12 (by decide)).mp q)), ← ef]
              exact j76 c (by rw [show j / 4 = 2 by omega]; rfl)
          · rw [if_neg (show ¬ (8 : Int32) ≤ nI j from fun q => c8 ((le 8 (by decide)).mp q)), ← ef]
            exact j76 b (by rw [show j / 4 = 1 by omega]; rfl)
        · rw [if_neg (show ¬ (4 : Int32) ≤ nI j from fun q => c4 ((le 4 (by decide)).mp q)), ← ef]
          exact j76 a (by rw [show j / 4 = 0 by omega]; rfl)
      · unfold X7_feed_L23
        exact if_pos (show (20 : Int32) ≤ nI 20 by decide)
    rw [lp, obs, mup_s]
    have s : Sys Λ Λn (fdS σ l (fdG f) 20) (mup (cpM τ0 4 l 20 (fun k => nI (fdG f k))) 10 8 (nI (l + 20))) := by
      have co1 : ∀ j, j ≠ 1 → co (fdS σ l (fdG f) 20) 1 j = co σ 1 j := fun j hj => by
        unfold fdS
        rw [co_cou, mup_j hj, mset_r (by decide)]
      have con : ∀ r, r ≠ 1 → r ≠ 2 → co (fdS σ l (fdG f) 20) r = co σ r := fun r a b => by
        unfold fdS
        rw [co_cou, mup_r a, mset_r b]
      have co2 : co (fdS σ l (fdG f) 20) 2 = fdF σ l (fdG f) 20 := by
        unfold fdS
        rw [co_cou, mup_r (by decide), mset_e]
      refine ⟨h1, by rw [mup_r (by decide), cpM_r (by decide)]; exact h2, by rw [mup_r (by decide), cpM_r (by decide)]; exact h3, ?_, ⟨n, u1, by rw [con 9 (by decide) (by decide)]; exact u2, by rw [mup_j (by decide), cpM_r (by decide)]; exact u3, fun i hi => ?_⟩, ⟨fun k => if l ≤ k ∧ k < l + 20 then fdG f (k - l) else ch k, l + 20, cl0, ?_, mup_s, fun k hk => ?_⟩, ?_, ?_, ?_, ?_⟩
      · unfold Img
        rw [con 0 (by decide) (by decide), mup_j (by decide), cpM_r (by decide), mup_r (by decide), cpM_r (q := 1) (by decide), imM_e (τ := τ0) (τ' := mup (cpM τ0 4 l 20 (fun k => nI (fdG f k))) 10 8 (nI (l + 20))) (by rw [mup_r (by decide), cpM_r (by decide)]) (fun i _ => by rw [mup_r (by decide), cpM_r (by decide)])]
        exact h4
      · rw [mup_r (by decide), mup_r (by decide), cpM_r (q := 3) (by decide), cpM_r (q := 0) (by decide)]
        exact u4 i hi
      · unfold fdS
        rw [co_cou, mup_s]
      · rw [co2, mup_r (by decide)]
        unfold fdF
        show (if l ≤ k ∧ k < l + 20 then fdG f (k - l) else ch k) < 256 ∧ (if l ≤ k ∧ k < l + 20 then sb (fdG f (k - l)) else co σ 2 k) = sb (if l ≤ k ∧ k < l + 20 then fdG f (k - l) else ch k) ∧ _ = nI (if l ≤ k ∧ k < l + 20 then fdG f (k - l) else ch k)
        by_cases q : l ≤ k ∧ k < l + 20
        · rw [if_pos q, if_pos q, cpM_in q.1 q.2]
          exact ⟨(bX_s _ _).2, rfl, rfl⟩
        · rw [if_neg q, if_neg q, cpM_out (by omega)]
          exact t4 k hk
      · rw [co1 5 (by decide), mup_j (by decide), cpM_r (by decide)]
        exact h7
      · rw [mup_j (by decide), cpM_r (by decide)]; exact h8
      · rw [mup_j (by decide), cpM_r (by decide)]; exact h9
      · rw [mup_j (by decide), cpM_r (by decide)]; exact h10
    exact ⟨_, _, _, rfl, rfl, s⟩
  · have no : ¬ nI (l + 20) ≤ (400 : Int32) := nI_ge (a := 400) (by omega) (by omega)
    unfold X3_add
    rw [t2, show nI l + 20 = nI (l + 20) from nI_add l 20, if_neg no, if_neg no]
    exact ⟨_, _, _, rfl, rfl, h0⟩
end AU2
