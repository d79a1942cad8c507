/-! PURE: readings; what is asked of a party -/
def rdF (up : Bool) (w : Mm) (p : Int32) (b : Nat) : Nat → Int32
  | 0 => -1
  | n + 1 => if subB n b = true ∧ (rdF up w p b n = -1 ∨ (up = true ∧ netV w p (rdF up w p b n) < netV w p (nI n)) ∨ (up = false ∧ netV w p (nI n) < netV w p (rdF up w p b n))) then nI n else rdF up w p b n
def suF (w : Mm) (p : Int32) (b : Nat) : Nat → Int32
  | 0 => 0
  | n + 1 => if subB n b = true then suF w p b n + netV w p (nI n) else suF w p b n
def cnF (b : Nat) : Nat → Nat
  | 0 => 0
  | n + 1 => if n &&& b = n then cnF b n + 1 else cnF b n
theorem rdF_s {up : Bool} {w : Mm} {p : Int32} {b n : Nat} : rdF up w p b (n + 1) = if subB n b = true ∧ (rdF up w p b n = -1 ∨ (up = true ∧ netV w p (rdF up w p b n) < netV w p (nI n)) ∨ (up = false ∧ netV w p (nI n) < netV w p (rdF up w p b n))) then nI n else rdF up w p b n := rfl
theorem rdF_end {up : Bool} {w : Mm} {p : Int32} {b : Nat} (hb : b < 256) : ∀ k, b + 1 + k ≤ 256 → rdF up w p b (b + 1 + k) = rdF up w p b (b + 1) := by
  intro k
  induction k with
  | zero => exact fun _ => rfl
  | succ k ih =>
    intro hk
    rw [← ih (by omega)]
    show (if subB (b + 1 + k) b = true ∧ _ then _ else _) = _
    rw [if_neg (fun q => by have := sub_le (by omega) hb q.1; omega)]
    rfl
theorem suF_end {w : Mm} {p : Int32} {b : Nat} (hb : b < 256) : ∀ k, b + 1 + k ≤ 256 → suF w p b (b + 1 + k) = suF w p b (b + 1) := by
  intro k
  induction k with
  | zero => exact fun _ => rfl
  | succ k ih =>
    intro hk
    rw [← ih (by omega)]
    show (if subB (b + 1 + k) b = true then _ else _) = _
    rw [if_neg (fun q => by have := sub_le (by omega) hb q; omega)]
    rfl
theorem rdF_j {up : Bool} {w : Mm} {p : Int32} {b : Nat} (hb : b < 256) : ∀ n, ∃ j, j ≤ n ∧ rdF up w p b (n + 1) = nI j := by
  intro n
  induction n with
  | zero => exact ⟨0, Nat.le_refl 0, by show (if subB 0 b = true ∧ _ then nI 0 else _) = nI 0; rw [if_pos ⟨sub_0 hb, Or.inl rfl⟩]⟩
  | succ n ih =>
    obtain ⟨j, h1, h2⟩ := ih
    rw [rdF_s]
    split
    · exact ⟨n + 1, by omega, rfl⟩
    · exact ⟨j, by omega, h2⟩
theorem suF_bI {w : Mm} (h : WI w) {p : Int32} {b : Nat} : ∀ n, n ≤ 256 → bI (suF w p b n) (n * 792) := by
  intro n
  induction n with
  | zero => exact fun _ => bI_0
  | succ n ih =>
    intro hn
    have e : (n + 1) * 792 = n * 792 + 792 := Nat.succ_mul n 792
    show bI (if subB n b = true then suF w p b n + netV w p (nI n) else suF w p b n) _
    split
    · rw [e]
      exact (bI_add (ih (by omega)) (netV_bI h) (by omega)).2
    · exact (ih (by omega)).mono (by omega)
theorem toL_add {x y : Int32} {a b : Nat} (hx : bI x a) (hy : bI y b) (h : a + b < 2 ^ 31) : (x + y).toInt64 = x.toInt64 + y.toInt64 := by
  obtain ⟨e, -⟩ := bI_add hx hy h
  obtain ⟨h1, h2⟩ := hx
  obtain ⟨h3, h4⟩ := hy
  apply Int64.toInt_inj.mp
  rw [Int64.toInt_add, Int32.toInt_toInt64, Int32.toInt_toInt64, Int32.toInt_toInt64, e]
  symm
  apply Int.bmod_eq_of_le <;> omega
theorem div64 (S : Int32) {c : Nat} (hc : c < 2 ^ 31) : (S.toInt64 / lN c).toInt32 = S / nI c := by
  apply Int32.toInt_inj.mp
  rw [Int64.toInt_toInt32, Int64.toInt_div, Int32.toInt_div, ← nI_l hc, Int32.toInt_toInt64, Int32.toInt_toInt64]
  exact Int.bmod_bmod_of_dvd (by decide)
theorem pow_cn : ∀ b, b < 256 → (match J16_bitCount (nI b) with | some v => ((1 : Int64) <<< (v.toInt64 &&& 63)) = lN (cnF b 256) ∧ 1 ≤ cnF b 256 ∧ cnF b 256 ≤ 256 | none => False) := by
  intro b hb
  have key : ∀ b, b < 256 → (match J16_bitCount (nI b) with | some v => decide (((1 : Int64) <<< (v.toInt64 &&& 63)) = lN (cnF b 256) ∧ 1 ≤ cnF b 256 ∧ cnF b 256 ≤ 256) | none => false) = true := by decide +kernel
  have := key b hb
  cases e : J16_bitCount (nI b) with
  | none => rw [e] at this; exact absurd this Bool.false_ne_true
  | some v => rw [e] at this; exact of_decide_eq_true this
/-- the component's readings -/
def rdS (σ : Cs) (f : Nat → Int32) (v : Int64) : Cs := cqu (cou σ (mset (co σ) 4 f)) v
theorem rdS_up {σ : Cs} {f : Nat → Int32} {v : Int64} {j : Nat} {x : Int32} : cou (rdS σ f v) (mup (co (rdS σ f v)) 4 j x) = rdS σ (upd f j x) v := by
  show cou (rdS σ f v) (mup (mset (co σ) 4 f) 4 j x) = _
  rw [mup_mset]
  rfl
theorem rdS_4 {σ : Cs} {f : Nat → Int32} {v : Int64} : co (rdS σ f v) 4 = f := mset_e (τ := co σ) (r := 4)
theorem rdS_sS {σ : Cs} {f : Nat → Int32} {v : Int64} : sS σ (rdS σ f v) := ⟨⟨rfl, rfl⟩, ⟨rfl, rfl⟩, fun _ _ => ⟨rfl, rfl⟩, rfl, rfl, rfl, rfl, rfl, rfl, rfl⟩
theorem rdS_q {σ : Cs} {f : Nat → Int32} {v u : Int64} : cqu (rdS σ f v) u = rdS σ f u := rfl
theorem rdS_self {σ : Cs} : rdS σ (co σ 4) (cq σ) = σ := by
  obtain ⟨a, b, c, d⟩ := σ
  show (a, mset b 4 (b 4), c, d) = (a, b, c, d)
  congr 2
  funext r
  unfold mset
  by_cases h : r = 4
  · rw [if_pos h, h]
  · rw [if_neg h]
section AQ
variable {Λ : Nat → Nat → (Nat → Int32) → Int32} {Λn : Nat → Int32} {σ : Cs} {τ : Mm}
theorem T_readingOf {w : Mm} (h : WI w) (hr : WR w (τ 0)) {p : Int32} {B : Nat} (B8 : B < 256) (eb : stB w 0 = nI B) (up : Bool) : X7_readingOf τ p (b01 up) = some (rdF up w p B 256) := by
  unfold X7_readingOf
  refine ob1 (loopO_run (step := X7_readingOf_L5 τ p (b01 up)) (fun n => (rdF up w p B n, nI n)) 256 (by decide) (fun n hn => ?_) ?_) rfl
  · have es : rdF up w p B (n + 1) = if subB n B = true ∧ (rdF up w p B n = -1 ∨ (up = true ∧ netV w p (rdF up w p B n) < netV w p (nI n)) ∨ (up = false ∧ netV w p (nI n) < netV w p (rdF up w p B n))) then nI n else rdF up w p B n := rfl
    unfold X7_readingOf_L5
    simp only []
    rw [if_neg (show ¬ (256 : Int32) ≤ nI n from nI_ge (b := 256) hn (by decide)), T_inState hr h, obs, eb, T_netOf h hr, T_netOf h hr, nI_1]
    simp only [obs]
    by_cases c3 : (nI n &&& (nI B ^^^ -1)) = 0
    · have c3' : subB n B = true := decide_eq_true c3
      rw [if_pos c3]
      by_cases c4 : rdF up w p B n = -1
      · rw [if_pos c4, es, if_pos ⟨c3', Or.inl c4⟩]
      · rw [if_neg c4]
        cases up with
        | true =>
          rw [if_neg b01T]
          by_cases c5 : netV w p (nI n) ≤ netV w p (rdF true w p B n)
          · rw [if_pos c5, es, if_neg (fun q => q.2.elim c4 (fun q => q.elim (fun q => Int32.not_lt.mpr c5 q.2) (fun q => absurd q.1 (by decide))))]
          · rw [if_neg c5, es, if_pos ⟨c3', Or.inr (Or.inl ⟨rfl, Int32.not_le.mp c5⟩)⟩]
        | false =>
          rw [if_pos b01F]
          by_cases c5 : netV w p (rdF false w p B n) ≤ netV w p (nI n)
          · rw [if_pos c5, es, if_neg (fun q => q.2.elim c4 (fun q => q.elim (fun q => absurd q.1 (by decide)) (fun q => Int32.not_lt.mpr c5 q.2)))]
          · rw [if_neg c5, es, if_pos ⟨c3', Or.inr (Or.inr ⟨rfl, Int32.not_le.mp c5⟩)⟩]
    · rw [if_neg c3, es, if_neg (fun q => c3 (of_decide_eq_true q.1))]
  · unfold X7_readingOf_L5
    exact if_pos (show (256 : Int32) ≤ nI 256 by decide)
theorem T_fortuneOf {w : Mm} (h : WI w) (hr : WR w (τ 0)) {p : Int32} {B : Nat} (B8 : B < 256) (eb : stB w 0 = nI B) (hc : 1 ≤ cnF B 256) (hc2 : cnF B 256 ≤ 256) : X7_fortuneOf τ p = some (suF w p B 256 / nI (cnF B 256)) := by
  unfold X7_fortuneOf
  refine ob1 (loopO_run (step := X7_fortuneOf_L7 τ p) (fun n => (suF w p B n, nI (cnF B n), nI n)) 256 (by decide) (fun n hn => ?_) (ex := (suF w p B 256, nI (cnF B 256))) ?_) ?_
  · have es : suF w p B (n + 1) = if subB n B = true then suF w p B n + netV w p (nI n) else suF w p B n := rfl
    have en : cnF B (n + 1) = if n &&& B = n then cnF B n + 1 else cnF B n := rfl
    unfold X7_fortuneOf_L7
    simp only []
    rw [if_neg (show ¬ (256 : Int32) ≤ nI n from nI_ge (b := 256) hn (by decide)), T_inState hr h, obs, eb, T_netOf h hr, nI_1, nI_1]
    simp only [obs]
    by_cases c3 : (nI n &&& (nI B ^^^ -1)) = 0
    · have c3' : subB n B = true := decide_eq_true c3
      rw [if_pos c3, es, if_pos c3', en, if_pos ((subB_iff hn B8).mp c3')]
    · have c3' : ¬ subB n B = true := fun q => c3 (of_decide_eq_true q)
      rw [if_neg c3, es, if_neg c3', en, if_neg (fun q => c3' ((subB_iff hn B8).mpr q))]
  · unfold X7_fortuneOf_L7
    exact if_pos (show (256 : Int32) ≤ nI 256 by decide)
  · unfold dnz
    rw [if_neg (show ¬ nI (cnF B 256) = 0 from fun q => by
      have := (nI_eq (b := 0) (by omega) (by decide)).mp q
      omega)]
    rfl
theorem of78 {f : Nat → Int32} {v : Int64} {p b x y : Int32} {n : Nat} : X5_of_J36_78 (rdS σ f v) p b (nI n) x y = some (.inl (rdS σ (upd (upd (upd f 2 y) 1 (if f 1 < x then x else f 1)) 0 (if x < f 0 then x else f 0)) (v + x.toInt64), nI (n + 1))) := by
  unfold X5_of_J36_78
  rw [obs, rdS_up, obs, rdS_4, rdS_up, obs, rdS_4, rdS_up, obs, nI_1, obs]
  rfl
theorem X5_of_s (h : WI (cw σ 0)) {p : Int32} {B : Nat} (B8 : B < 256) (eb : stB (cw σ 0) 0 = nI B) : ∃ f, X5_of σ p = some (rdS σ f (suF (cw σ 0) p B (B + 1)).toInt64) ∧ f 0 = netV (cw σ 0) p (rdF false (cw σ 0) p B (B + 1)) ∧ f 1 = netV (cw σ 0) p (rdF true (cw σ 0) p B (B + 1)) ∧ f 2 = rdF true (cw σ 0) p B (B + 1) := by
  unfold X5_of
  rw [X2_of_s h, obs, eb]
  have st : cqu (cou (cou (cou σ (mup (co σ) 4 0 100000000)) (mup (co (cou σ (mup (co σ) 4 0 100000000))) 4 1 (-100000000))) (mup (co (cou (cou σ (mup (co σ) 4 0 100000000)) (mup (co (cou σ (mup (co σ) 4 0 100000000))) 4 1 (-100000000)))) 4 2 0)) 0 = rdS σ (upd (upd (upd (co σ 4) 0 100000000) 1 (-100000000)) 2 0) 0 := by
    have e1 : cou σ (mup (co σ) 4 0 100000000) = rdS σ (upd (co σ 4) 0 100000000) (cq σ) := by
      have := rdS_up (σ := σ) (f := co σ 4) (v := cq σ) (j := 0) (x := 100000000)
      rw [rdS_self] at this
      exact this
    rw [e1, rdS_up, rdS_up, rdS_q]
  rw [obs, obs, obs, obs, st]
  have key : Rn (loopO (X5_of_L36 p (nI B)) FU (rdS σ (upd (upd (upd (co σ 4) 0 100000000) 1 (-100000000)) 2 0) 0, 0)) (fun x => ∃ f, x = rdS σ f (suF (cw σ 0) p B (B + 1)).toInt64 ∧ f 0 = netV (cw σ 0) p (rdF false (cw σ 0) p B (B + 1)) ∧ f 1 = netV (cw σ 0) p (rdF true (cw σ 0) p B (B + 1)) ∧ f 2 = rdF true (cw σ 0) p B (B + 1)) := by
    refine loopO_inv (fun n (s : Cs × Int32) => s.2 = nI n ∧ ((n = 0 ∧ ∃ f, s.1 = rdS σ f 0 ∧ f 0 = 100000000 ∧ f 1 = -100000000 ∧ f 2 = 0) ∨ (1 ≤ n ∧ ∃ f, s.1 = rdS σ f (suF (cw σ 0) p B n).toInt64 ∧ f 0 = netV (cw σ 0) p (rdF false (cw σ 0) p B n) ∧ f 1 = netV (cw σ 0) p (rdF true (cw σ 0) p B n) ∧ f 2 = rdF true (cw σ 0) p B n))) _ (B + 1) (by unfold FU; omega) (fun n s hn hs => ?_) ⟨rfl, Or.inl ⟨rfl, _, rfl, rfl, rfl, rfl⟩⟩
    obtain ⟨s1, s2⟩ := s
    obtain ⟨hx, hs⟩ := hs
    simp only at hx hs
    subst hx
    unfold X5_of_L36
    simp only []
    by_cases cn : n = B + 1
    · subst cn
      rw [if_pos (nI_lt (by omega) (by omega))]
      rcases hs with ⟨q, -⟩ | ⟨-, f, e1, e2⟩
      · omega
      · exact Rn.mk (Or.inr ⟨_, rfl, f, e1, e2⟩)
    · rw [if_neg (nI_nlt (by omega) (by omega))]
      have nb : ∀ r, bI (netV (cw σ 0) p r) 792 := fun r => netV_bI h
      have eF : ∀ up, rdF up (cw σ 0) p B (n + 1) = if subB n B = true ∧ (rdF up (cw σ 0) p B n = -1 ∨ (up = true ∧ netV (cw σ 0) p (rdF up (cw σ 0) p B n) < netV (cw σ 0) p (nI n)) ∨ (up = false ∧ netV (cw σ 0) p (nI n) < netV (cw σ 0) p (rdF up (cw σ 0) p B n))) then nI n else rdF up (cw σ 0) p B n := fun _ => rfl
      have eS : suF (cw σ 0) p B (n + 1) = if subB n B = true then suF (cw σ 0) p B n + netV (cw σ 0) p (nI n) else suF (cw σ 0) p B n := rfl
      rcases hs with ⟨rfl, f, rfl, f0, f1, f2⟩ | ⟨n1, f, rfl, f0, f1, f2⟩
      · have s0 := sub_0 B8
        have r1 : ∀ up, rdF up (cw σ 0) p B 1 = nI 0 := fun up => by rw [eF, if_pos ⟨s0, Or.inl rfl⟩]
        have c3 : (nI 0 &&& (nI B ^^^ -1)) = 0 := of_decide_eq_true s0
        have b0 := nb (nI 0)
        have g1 : ¬ netV (cw σ 0) p (nI 0) ≤ -100000000 := by
          rw [Int32.le_iff_toInt_le, show (-100000000 : Int32).toInt = -100000000 from rfl]
          have := b0.1
          omega
        have g2 : netV (cw σ 0) p (nI 0) < 100000000 := by
          rw [Int32.lt_iff_toInt_lt, show (100000000 : Int32).toInt = 100000000 from rfl]
          have := b0.2
          omega
        rw [if_pos c3, X5_net_s (σ := rdS σ f 0) h, obs, rdS_4, f1, show cw (rdS σ f 0) = cw σ from rfl, if_neg g1, of78]
        have g3 : (-100000000 : Int32) < netV (cw σ 0) p (nI 0) := Int32.not_le.mp g1
        refine Rn.mk (Or.inl ⟨_, rfl, by omega, rfl, Or.inr ⟨by omega, upd (upd (upd f 2 (nI 0)) 1 (if f 1 < netV (cw σ 0) p (nI 0) then netV (cw σ 0) p (nI 0) else f 1)) 0 (if netV (cw σ 0) p (nI 0) < f 0 then netV (cw σ 0) p (nI 0) else f 0), ?_, ?_, ?_, ?_⟩⟩)
        · show rdS σ _ (0 + (netV (cw σ 0) p (nI 0)).toInt64) = rdS σ _ (suF (cw σ 0) p B 1).toInt64
          rw [eS, if_pos s0, show suF (cw σ 0) p B 0 = 0 from rfl, toL_add (bI_0 (b := 0)) b0 (by decide)]
          rfl
        · rw [r1]
          show (if netV (cw σ 0) p (nI 0) < f 0 then _ else _) = _
          rw [f0, if_pos g2]
        · rw [r1]
          show (if f 1 < netV (cw σ 0) p (nI 0) then _ else _) = _
          rw [f1, if_pos g3]
        · rw [r1]
          rfl
      · obtain ⟨m, rfl⟩ : ∃ m, n = m + 1 := ⟨n - 1, by omega⟩
        obtain ⟨jt, hjt, ejt⟩ := rdF_j (up := true) (w := cw σ 0) (p := p) B8 m
        obtain ⟨jf, hjf, ejf⟩ := rdF_j (up := false) (w := cw σ 0) (p := p) B8 m
        have nt : ¬ rdF true (cw σ 0) p B (m + 1) = -1 := by rw [ejt]; exact nI_nm (by omega)
        have nf : ¬ rdF false (cw σ 0) p B (m + 1) = -1 := by rw [ejf]; exact nI_nm (by omega)
        by_cases c3 : (nI (m + 1) &&& (nI B ^^^ -1)) = 0
        · have c3' : subB (m + 1) B = true := decide_eq_true c3
          rw [if_pos c3, X5_net_s (σ := rdS σ f _) h, obs, rdS_4, show cw (rdS σ f (suF (cw σ 0) p B (m + 1)).toInt64) = cw σ from rfl, f1]
          rw [if_pos c3'] at eS
          have vv : (suF (cw σ 0) p B (m + 1)).toInt64 + (netV (cw σ 0) p (nI (m + 1))).toInt64 = (suF (cw σ 0) p B (m + 1 + 1)).toInt64 := by
            rw [eS, toL_add (suF_bI h (m + 1) (by omega)) (nb _) (by omega)]
          have least : (if netV (cw σ 0) p (nI (m + 1)) < f 0 then netV (cw σ 0) p (nI (m + 1)) else f 0) = netV (cw σ 0) p (rdF false (cw σ 0) p B (m + 1 + 1)) := by
            rw [f0]
            by_cases c6 : netV (cw σ 0) p (nI (m + 1)) < netV (cw σ 0) p (rdF false (cw σ 0) p B (m + 1))
            · rw [if_pos c6, eF, if_pos ⟨c3', Or.inr (Or.inr ⟨rfl, c6⟩)⟩]
            · rw [if_neg c6, eF, if_neg (fun q => q.2.elim nf (fun q => q.elim (fun q => absurd q.1 (by decide)) (fun q => c6 q.2)))]
          by_cases c5 : netV (cw σ 0) p (nI (m + 1)) ≤ netV (cw σ 0) p (rdF true (cw σ 0) p B (m + 1))
          · have c5' := Int32.not_lt.mpr c5
            have et : rdF true (cw σ 0) p B (m + 1 + 1) = rdF true (cw σ 0) p B (m + 1) := by rw [eF, if_neg (fun q => q.2.elim nt (fun q => q.elim (fun q => c5' q.2) (fun q => absurd q.1 (by decide))))]
            rw [if_pos c5, of78, vv]
            refine Rn.mk (Or.inl ⟨_, rfl, by omega, rfl, Or.inr ⟨by omega, _, rfl, least, ?_, ?_⟩⟩)
            · show (if f 1 < netV (cw σ 0) p (nI (m + 1)) then _ else f 1) = _
              rw [f1, if_neg c5', et]
            · show f 2 = _
              rw [f2, et]
          · have c5' := Int32.not_le.mp c5
            have et : rdF true (cw σ 0) p B (m + 1 + 1) = nI (m + 1) := by rw [eF, if_pos ⟨c3', Or.inr (Or.inl ⟨rfl, c5'⟩)⟩]
            rw [if_neg c5, of78, vv]
            refine Rn.mk (Or.inl ⟨_, rfl, by omega, rfl, Or.inr ⟨by omega, _, rfl, least, ?_, ?_⟩⟩)
            · show (if f 1 < netV (cw σ 0) p (nI (m + 1)) then _ else f 1) = _
              rw [f1, if_pos c5', et]
            · show nI (m + 1) = _
              rw [et]
        · have c3' : ¬ subB (m + 1) B = true := fun q => c3 (of_decide_eq_true q)
          have et : ∀ up, rdF up (cw σ 0) p B (m + 1 + 1) = rdF up (cw σ 0) p B (m + 1) := fun up => by rw [eF, if_neg (fun q => c3' q.1)]
          rw [if_neg c3, nI_1, obs]
          refine Rn.mk (Or.inl ⟨_, rfl, by omega, rfl, Or.inr ⟨by omega, f, ?_, ?_, ?_, ?_⟩⟩)
          · rw [eS, if_neg c3']
          · rw [et, f0]
          · rw [et, f1]
          · rw [et, f2]
  obtain ⟨x, e1, f, rfl, e2⟩ := key
  exact ⟨f, by rw [e1, obs], e2⟩
theorem S_party (h : Sys Λ Λn σ τ) (a b : Int32) : CallX Λ Λn (cdx [0, 3]) (X1_party σ a b) (X7_party τ a b) := by
  unfold X1_party X7_party
  rw [X1_partyAt_s, T_isParty h.2.1, obs, obs]
  by_cases c : inB a 0 (cw σ 0 0 1 - 1) = true
  · obtain ⟨p, hp, rfl⟩ := inB_P h.1 c
    have hP := h.1.P.2
    rw [if_pos c, c, if_neg b01T]
    simp only [Sum.elim_inl]
    rw [X1_question_s, isIn_s, obs, obs]
    unfold X7_party_J28
    by_cases c2 : inB b 0 6 = true
    · obtain ⟨k, hk, rfl⟩ := inB_C (n := 6) (by decide) c2
      rw [if_pos c2, c2, if_neg b01T, Option.elim_none, obs, if_pos t00]
      have h1 := h.t0 0
      have z0 : mup τ 10 0 0 10 0 = 0 := mup_s
      generalize mup τ 10 0 0 = τ1 at h1 z0
      have w0 := h1.2.1
      have hD := h.1.D.2
      obtain ⟨B, hB, eB⟩ := sBits_N (nD (cw σ 0)) hD (fun d => decide (cw σ 0 26 d = 0))
      have B8 : B < 256 := Nat.lt_of_lt_of_le hB (Nat.pow_le_pow_right (by decide) hD)
      have eb : stB (cw σ 0) 0 = nI B := eB
      obtain ⟨f, e5, f0, f1, f2⟩ := X5_of_s (σ := σ) (p := nI p) h.1 B8 eb
      have endR : ∀ up, rdF up (cw σ 0) (nI p) B 256 = rdF up (cw σ 0) (nI p) B (B + 1) := fun up => by
        have := rdF_end (up := up) (w := cw σ 0) (p := nI p) B8 (255 - B) (by omega)
        rw [show B + 1 + (255 - B) = 256 by omega] at this
        exact this
      have endS : suF (cw σ 0) (nI p) B 256 = suF (cw σ 0) (nI p) B (B + 1) := by
        have := suF_end (w := cw σ 0) (p := nI p) B8 (255 - B) (by omega)
        rw [show B + 1 + (255 - B) = 256 by omega] at this
        exact this
      have rT : X7_readingOf τ1 (nI p) 1 = some (rdF true (cw σ 0) (nI p) B (B + 1)) := by
        have := T_readingOf (p := nI p) h.1 w0 B8 eb true
        rw [endR] at this
        exact this
      have rF : X7_readingOf τ1 (nI p) 0 = some (rdF false (cw σ 0) (nI p) B (B + 1)) := by
        have := T_readingOf (p := nI p) h.1 w0 B8 eb false
        rw [endR] at this
        exact this
      have s : Sys Λ Λn (rdS σ f (suF (cw σ 0) (nI p) B (B + 1)).toInt64) τ1 := h1.sc rdS_sS sT.rf
      have eidx : ∀ q : Nat, (15 : Int32) + 2 * nI p + nI q = nI (15 + 2 * p + q) := fun q => by rw [ix_coin, nI_add]
      match k, hk with
      | 0, _ =>
        rw [if_pos (show nI 0 = 0 from rfl), if_neg (show ¬ (2 : Int32) ≤ nI 0 by decide), eidx, ldN (by omega) (by decide), obs, ldN (by omega) (by decide), obs, show τ1 0 (15 + 2 * p + 0) = cw σ 0 10 p from (w0 10 p (by show p < 6; omega)).symm]
        exact .ok h1 z0 rfl rfl
      | 1, _ =>
        rw [if_neg (show ¬ nI 1 = 0 by decide), if_pos (show nI 1 = 1 from rfl), if_neg (show ¬ (2 : Int32) ≤ nI 1 by decide), eidx, ldN (by omega) (by decide), obs, ldN (by omega) (by decide), obs, show τ1 0 (15 + 2 * p + 1) = cw σ 0 14 p from by rw [show 15 + 2 * p + 1 = 16 + 2 * p by omega]; exact (w0 14 p (by show p < 6; omega)).symm]
        rcases h.1.broke (show p < 6 by omega) with g | g
        · rw [g, if_pos rfl]
          exact .ok h1 z0 rfl rfl
        · rw [g, if_neg (by decide)]
          exact .ok h1 z0 rfl rfl
      | 2, _ =>
        rw [if_neg (show ¬ nI 2 = 0 by decide), if_neg (show ¬ nI 2 = 1 by decide), if_pos (show nI 2 = 2 from rfl), if_pos (show (2 : Int32) ≤ nI 2 by decide), if_pos (show nI 2 = 2 from rfl)]
        unfold X1_shareOf X7_shareOf
        have e3 : τ1 0 3 = nI (nP (cw σ 0)) := (w0 0 1 (by decide)).symm.trans h.1.P.1
        have e4 : loopO (X7_shareOf_L4 τ1 (nI p)) FU (0, 0) = some (sumI (nP (cw σ 0)) (cw σ 0 10)) := by
          refine loop_sum (cw σ 0 10) (nP (cw σ 0)) (FU8 (by omega)) (fun i acc hi => ?_) (fun acc => ?_)
          · unfold X7_shareOf_L4
            rw [if_neg (by rw [e3]; exact nI_ge hi (by omega)), T_coin w0 (by omega), obs, obs, nI_1, obs]
          · unfold X7_shareOf_L4
            rw [if_pos (by rw [e3]; exact nI_le (Nat.le_refl _) (by omega))]
        rw [coinsAll_s h.1, e4, obs, obs]
        by_cases c6 : sumI (nP (cw σ 0)) (cw σ 0 10) = 0
        · rw [if_pos c6, if_pos c6, obs, obs]
          exact .ok h1 z0 rfl rfl
        · unfold dnz
          rw [if_neg c6, if_neg c6, ldN (by omega) (by decide), T_coin w0 (by omega)]
          simp only [obs]
          rw [if_neg c6]
          exact .ok h1 z0 rfl rfl
      | 3, _ =>
        rw [if_neg (show ¬ nI 3 = 0 by decide), if_neg (show ¬ nI 3 = 1 by decide), if_neg (show ¬ nI 3 = 2 by decide), if_pos (show nI 3 = 3 from rfl), if_pos (show (2 : Int32) ≤ nI 3 by decide), if_neg (show ¬ nI 3 = 2 by decide), if_pos (show nI 3 = 3 from rfl), e5, obs, rF, obs, T_netOf h.1 w0, obs, rdS_4, f0]
        exact .ok s z0 rfl rfl
      | 4, _ =>
        rw [if_neg (show ¬ nI 4 = 0 by decide), if_neg (show ¬ nI 4 = 1 by decide), if_neg (show ¬ nI 4 = 2 by decide), if_neg (show ¬ nI 4 = 3 by decide), if_pos (show nI 4 = 4 from rfl), if_pos (show (2 : Int32) ≤ nI 4 by decide), if_neg (show ¬ nI 4 = 2 by decide), if_neg (show ¬ nI 4 = 3 by decide), if_pos (show nI 4 = 4 from rfl), e5, obs, rT, obs, T_netOf h.1 w0, obs, rdS_4, f1]
        exact .ok s z0 rfl rfl
      | 5, _ =>
        rw [if_neg (show ¬ nI 5 = 0 by decide), if_neg (show ¬ nI 5 = 1 by decide), if_neg (show ¬ nI 5 = 2 by decide), if_neg (show ¬ nI 5 = 3 by decide), if_neg (show ¬ nI 5 = 4 by decide), if_pos (show nI 5 = 5 from rfl), if_pos (show (2 : Int32) ≤ nI 5 by decide), if_neg (show ¬ nI 5 = 2 by decide), if_neg (show ¬ nI 5 = 3 by decide), if_neg (show ¬ nI 5 = 4 by decide), if_pos (show nI 5 = 5 from rfl), e5, obs, rT, obs, rdS_4, f2]
        exact .ok s z0 rfl rfl
      | 6, _ =>
        rw [if_neg (show ¬ nI 6 = 0 by decide), if_neg (show ¬ nI 6 = 1 by decide), if_neg (show ¬ nI 6 = 2 by decide), if_neg (show ¬ nI 6 = 3 by decide), if_neg (show ¬ nI 6 = 4 by decide), if_neg (show ¬ nI 6 = 5 by decide), if_pos (show (2 : Int32) ≤ nI 6 by decide), if_neg (show ¬ nI 6 = 2 by decide), if_neg (show ¬ nI 6 = 3 by decide), if_neg (show ¬ nI 6 = 4 by decide), if_neg (show ¬ nI 6 = 5 by decide), e5, obs]
        have pc := pow_cn B B8
        unfold X5_fortune
        rw [show cw (rdS σ f (suF (cw σ 0) (nI p) B (B + 1)).toInt64) 0 = cw σ 0 from rfl, X2_of_s h.1, obs, eb]
        cases eg : J16_bitCount (nI B) with
        | none => rw [eg] at pc; exact pc.elim
        | some v =>
          rw [eg] at pc
          obtain ⟨p1, p2, p3⟩ := pc
          have nz : ¬ lN (cnF B 256) = 0 := fun q => by
            have := (pk_lEQ (b := 0) (by omega) (by decide)).mp q
            omega
          unfold dnzL
          rw [obs, p1, if_neg nz, obs, T_fortuneOf h.1 w0 B8 eb p2 p3, obs, obs, show cq (rdS σ f (suF (cw σ 0) (nI p) B (B + 1)).toInt64) = (suF (cw σ 0) (nI p) B (B + 1)).toInt64 from rfl, div64 _ (by omega), endS]
          exact .ok s z0 rfl rfl
    · rw [if_neg c2, nBf c2, if_pos b01F, obs, if_neg (t01 (by decide)), Option.elim_some]
      exact .er0 h rfl (by decide) rfl rfl
  · unfold X7_party_J28
    rw [if_neg c, nBf c, if_pos b01F, obs, if_neg (t01 (by decide))]
    simp only [Sum.elim_inr]
    exact .er0 h rfl (by decide) rfl rfl
end AQ
