/-! PURE PART, GENERAL: total runs with a post, loops, bounds; no program in sight -/
def Rn {α : Type} (a : Option α) (P : α → Prop) : Prop := ∃ x, a = some x ∧ P x
theorem Rn.mk {α : Type} {x : α} {P : α → Prop} (h : P x) : Rn (some x) P := ⟨x, rfl, h⟩
theorem Rn.of {α : Type} {a : Option α} {x : α} {P : α → Prop} (e : a = some x) (h : P x) : Rn a P := ⟨x, e, h⟩
theorem Rn.bind {α β : Type} {a : Option α} {f : α → Option β} {P : α → Prop} {Q : β → Prop} (h : Rn a P) (k : ∀ x, P x → Rn (f x) Q) : Rn (a.bind f) Q := by
  obtain ⟨x, e, hx⟩ := h
  obtain ⟨y, e2, hy⟩ := k x hx
  exact ⟨y, by rw [e]; exact e2, hy⟩
theorem Rn.mono {α : Type} {a : Option α} {P Q : α → Prop} (h : Rn a P) (k : ∀ x, P x → Q x) : Rn a Q := by
  obtain ⟨x, e, hx⟩ := h
  exact ⟨x, e, k x hx⟩
theorem obs {α β : Type} (x : α) (f : α → Option β) : (some x).bind f = f x := by rw [Option.bind_some]
theorem oes {α β : Type} (x : α) (b : β) (f : α → β) : Option.elim (some x) b f = f x := by rw [Option.elim_some]
theorem ob1 {α β : Type} {a : Option α} {x : α} {f : α → Option β} {r : Option β} (e : a = some x) (h : f x = r) : a.bind f = r := by
  rw [e]; exact h
/-- a loop by a count: its state after i rounds is st i; N rounds -/
theorem loopO_run {S E : Type} {step : S → Option (S ⊕ E)} (st : Nat → S) (N : Nat) {ex : E} (hN : N < FU) (hs : ∀ i, i < N → step (st i) = some (.inl (st (i + 1)))) (he : step (st N) = some (.inr ex)) : loopO step FU (st 0) = some ex := by
  have key : ∀ k n i : Nat, i + k = N → k < n → loopO step n (st i) = some ex := by
    intro k
    induction k with
    | zero =>
      intro n i h1 h2
      cases n with
      | zero => omega
      | succ n =>
        have : i = N := by omega
        subst this
        show (step (st i)).bind _ = _
        rw [he]
        rfl
    | succ k ih =>
      intro n i h1 h2
      cases n with
      | zero => omega
      | succ n =>
        show (step (st i)).bind _ = _
        rw [hs i (by omega)]
        exact ih n (i + 1) (by omega) (by omega)
  exact key N FU 0 (by omega) hN
/-- a loop by an invariant that knows its round -/
theorem loopO_inv {S E : Type} {step : S → Option (S ⊕ E)} (I : Nat → S → Prop) (J : E → Prop) (N : Nat) (hN : N < FU) (hs : ∀ i s, i ≤ N → I i s → Rn (step s) (fun o => (∃ s', o = .inl s' ∧ i < N ∧ I (i + 1) s') ∨ ∃ e, o = .inr e ∧ J e)) {s0 : S} (h0 : I 0 s0) : Rn (loopO step FU s0) J := by
  have key : ∀ k n i s, i + k = N → k < n → I i s → Rn (loopO step n s) J := by
    intro k
    induction k with
    | zero =>
      intro n i s h1 h2 h3
      cases n with
      | zero => omega
      | succ n =>
        obtain ⟨o, e1, h4⟩ := hs i s (by omega) h3
        rcases h4 with ⟨s', -, h5, -⟩ | ⟨e, rfl, h5⟩
        · omega
        · refine ⟨e, ?_, h5⟩
          show (step s).bind _ = _
          rw [e1]
          rfl
    | succ k ih =>
      intro n i s h1 h2 h3
      cases n with
      | zero => omega
      | succ n =>
        obtain ⟨o, e1, h4⟩ := hs i s (by omega) h3
        rcases h4 with ⟨s', rfl, h5, h6⟩ | ⟨e, rfl, h5⟩
        · obtain ⟨x, e2, h7⟩ := ih n (i + 1) s' (by omega) (by omega) h6
          refine ⟨x, ?_, h7⟩
          show (step s).bind _ = _
          rw [e1]
          exact e2
        · refine ⟨e, ?_, h5⟩
          show (step s).bind _ = _
          rw [e1]
          rfl
  exact key N FU 0 s0 (by omega) hN h0
theorem inb_nI {k n : Nat} (h : k < n) (hn : n < 2 ^ 31) : inb (nI k) n = true := by
  unfold inb
  have h1 : ¬ nI k < 0 := nI_pos (by omega)
  rw [nI_clamp (by omega)]
  simp [h1, h]
theorem ldN {n k : Nat} {f : Nat → Int32} (h : k < n) (hn : n < 2 ^ 31) : ld n f (nI k) = some (f k) := by
  unfold ld
  rw [if_pos (inb_nI h hn), nI_clamp (by omega)]
theorem stoN {n r k : Nat} {τ : Mm} {x : Int32} (h : k < n) (hn : n < 2 ^ 31) : sto n τ r (nI k) x = some (mup τ r k x) := by
  unfold sto
  rw [if_pos (inb_nI h hn), nI_clamp (by omega)]
theorem stofN {n k : Nat} {f : Nat → Int32} {x : Int32} (h : k < n) (hn : n < 2 ^ 31) : stof n f (nI k) x = some (upd f k x) := by
  unfold stof
  rw [if_pos (inb_nI h hn), nI_clamp (by omega)]
theorem nI0 : nI 0 = (0 : Int32) := rfl
theorem mup_s {τ : Mm} {r j : Nat} {x : Int32} : mup τ r j x r j = x := by simp [mup, upd]
theorem mup_j {τ : Mm} {r j k : Nat} {x : Int32} (h : k ≠ j) : mup τ r j x r k = τ r k := by simp [mup, upd, h]
theorem mup_r {τ : Mm} {r q j : Nat} {x : Int32} (h : q ≠ r) : mup τ r j x q = τ q := by simp [mup, h]
theorem mup_e {τ : Mm} {r j : Nat} {x : Int32} : mup τ r j x r = upd (τ r) j x := by simp [mup]
theorem mset_e {τ : Mm} {r : Nat} {f : Nat → Int32} : mset τ r f r = f := by simp [mset]
theorem mset_r {τ : Mm} {r q : Nat} {f : Nat → Int32} (h : q ≠ r) : mset τ r f q = τ q := by simp [mset, h]
theorem mset_upd {τ : Mm} {r k : Nat} {x : Int32} : mset τ r (upd (τ r) k x) = mup τ r k x := by
  funext a
  unfold mset mup
  by_cases h : a = r
  · rw [if_pos h, if_pos h, h]
  · rw [if_neg h, if_neg h]
theorem mup_mset {τ : Mm} {r k : Nat} {f : Nat → Int32} {x : Int32} : mup (mset τ r f) r k x = mset τ r (upd f k x) := by
  funext a
  unfold mset mup
  by_cases h : a = r
  · simp [h]
  · simp [h]
/-- a number up to a bound -/
def isN (x : Int32) (b : Nat) : Prop := ∃ k, k ≤ b ∧ x = nI k
theorem isN.mk {k b : Nat} (h : k ≤ b) : isN (nI k) b := ⟨k, h, rfl⟩
theorem isN.mono {x : Int32} {a b : Nat} (h : isN x a) (hab : a ≤ b) : isN x b := by
  obtain ⟨k, h1, h2⟩ := h
  exact ⟨k, by omega, h2⟩
def tN (x : Int32) : Nat := x.toNatClampNeg
theorem tN_nI {k : Nat} (h : k < 2 ^ 31) : tN (nI k) = k := nI_clamp h
theorem isN.e {x : Int32} {b : Nat} (h : isN x b) (hb : b < 2 ^ 31) : x = nI (tN x) ∧ tN x ≤ b := by
  obtain ⟨k, h1, rfl⟩ := h
  rw [tN_nI (by omega)]
  exact ⟨rfl, h1⟩
/-- sets as bits -/
def sBits : Nat → (Nat → Bool) → Int32
  | 0, _ => 0
  | n + 1, p => sBits n p ||| (if p n = true then (1 : Int32) <<< (nI n &&& 31) else 0)
def hasB (set k : Int32) : Bool := decide (((set >>> (k &&& 31)) &&& 1) = 1)
theorem sBits_ext {n : Nat} {p q : Nat → Bool} (h : ∀ i, i < n → p i = q i) : sBits n p = sBits n q := by
  induction n with
  | zero => rfl
  | succ n ih =>
    show sBits n p ||| _ = sBits n q ||| _
    rw [ih (fun i hi => h i (by omega)), h n (by omega)]
theorem sumI_ext {n : Nat} {f g : Nat → Int32} (h : ∀ i, i < n → f i = g i) : sumI n f = sumI n g := by
  induction n with
  | zero => rfl
  | succ n ih =>
    show sumI n f + _ = sumI n g + _
    rw [ih (fun i hi => h i (by omega)), h n (by omega)]
def b01 (b : Bool) : Int32 := if b = true then 1 else 0
/-! WORLDS: the component's memory w; the reference's row m -/
def wSz (r : Nat) : Nat := if r = 0 then 9 else if r = 9 then 4 else if r < 9 then 0 else if r < 15 then 6 else if r < 27 then 8 else if r = 27 then 240 else 0
def wX (r j : Nat) : Nat := if r = 0 then (if j = 0 then 0 else j + 2) else if r = 9 then 11 + j else if r = 10 then 15 + 2 * j else if r = 14 then 16 + 2 * j else if r < 14 then 27 + 3 * j + (r - 11) else if r = 15 then 56 + 12 * j else if r < 27 then 45 + 12 * j + (r - 16) else 141 + j
def WR (w : Mm) (m : Nat → Int32) : Prop := ∀ r j, j < wSz r → w r j = m (wX r j)
def wY (i : Nat) : Nat × Nat := if i = 0 then (0, 0) else if i < 11 then (0, i - 2) else if i < 15 then (9, i - 11) else if i < 27 then (if (i - 15) % 2 = 0 then (10, (i - 15) / 2) else (14, (i - 15) / 2)) else if i < 45 then (11 + (i - 27) % 3, (i - 27) / 3) else if i < 141 then (if (i - 45) % 12 = 11 then (15, (i - 45) / 12) else (16 + (i - 45) % 12, (i - 45) / 12)) else (27, i - 141)
theorem wY_X : ∀ r, r < 28 → ∀ j, j < 240 → j < wSz r → wY (wX r j) = (r, j) ∧ wX r j < 381 ∧ wX r j ≠ 1 ∧ wX r j ≠ 2 := by decide +kernel
theorem wSz_lt {r j : Nat} (h : j < wSz r) : r < 28 ∧ j < 240 := by
  unfold wSz at h
  constructor <;> (repeat' split at h) <;> omega
theorem wX_lt {r j : Nat} (h : j < wSz r) : wX r j < 381 := (wY_X r (wSz_lt h).1 j (wSz_lt h).2 h).2.1
theorem wX_12 {r j : Nat} (h : j < wSz r) : wX r j ≠ 1 ∧ wX r j ≠ 2 := (wY_X r (wSz_lt h).1 j (wSz_lt h).2 h).2.2
theorem wX_inj {r j r' j' : Nat} (h : j < wSz r) (h' : j' < wSz r') (e : wX r j = wX r' j') : r = r' ∧ j = j' := by
  have h1 := (wY_X r (wSz_lt h).1 j (wSz_lt h).2 h).1
  have h2 := (wY_X r' (wSz_lt h').1 j' (wSz_lt h').2 h').1
  rw [e, h2] at h1
  exact ⟨(Prod.mk.inj h1).1.symm, (Prod.mk.inj h1).2.symm⟩
theorem WR.put {w : Mm} {m : Nat → Int32} (h : WR w m) {r j : Nat} (hj : j < wSz r) (x : Int32) : WR (mup w r j x) (upd m (wX r j) x) := by
  intro r' j' h'
  by_cases e : r' = r
  · subst e
    by_cases e2 : j' = j
    · subst e2
      rw [mup_s]
      simp [upd]
    · rw [mup_j e2, h r' j' h']
      have : wX r' j' ≠ wX r' j := fun q => e2 (wX_inj h' hj q).2
      simp [upd, this]
  · rw [mup_r e, h r' j' h']
    have : wX r' j' ≠ wX r j := fun q => e (wX_inj h' hj q).1
    simp [upd, this]
/-- a row's place that no world tells -/
theorem WR.skip {w : Mm} {m : Nat → Int32} (h : WR w m) {i : Nat} (hi : i = 1 ∨ i = 2 ∨ 381 ≤ i) (x : Int32) : WR w (upd m i x) := by
  intro r j hj
  have h1 := wX_lt hj
  have h2 := wX_12 hj
  rw [h r j hj]
  have : wX r j ≠ i := by omega
  simp [upd, this]
theorem WR.congr {w : Mm} {m m' : Nat → Int32} (h : WR w m) (e : ∀ i, i < 381 → m' i = m i) : WR w m' := fun r j hj => by rw [e _ (wX_lt hj)]; exact h r j hj
/-- the numbers of a world -/
def nP (w : Mm) : Nat := tN (w 0 1)
def nK (w : Mm) : Nat := tN (w 0 2)
def nD (w : Mm) : Nat := tN (w 0 3)
/-- -1, or a number below -/
def isM (x : Int32) (b : Nat) : Prop := x = -1 ∨ ∃ k, k < b ∧ x = nI k
/-- what a world's number may be: of P parties, K inks, N deeds; in region r, at j -/
def okC (P K N r j : Nat) (x : Int32) : Prop :=
  match r with
  | 0 => match j with
    | 1 => isN x 6
    | 2 => isN x 6
    | 3 => isN x 8
    | 4 => isN x 9999
    | 7 => isN x 60
    | _ => True
  | 9 => isN x 9
  | 11 => j < K → ∃ k, 1 ≤ k ∧ k ≤ 99 ∧ x = nI k
  | 12 => j < K → isN x 99
  | 13 => j < K → isN x 9
  | 14 => x = 0 ∨ x = 1
  | 15 => x = 0 ∨ x = 1
  | 16 => j < N → ∃ k, k < K ∧ x = nI k
  | 17 => j < N → ∃ k, k < P ∧ x = nI k
  | 18 => j < N → ∃ k, k < P ∧ x = nI k
  | 19 => j < N → isN x 99
  | 21 => j < N → isM x j
  | 22 => j < N → isM x j
  | 23 => j < N → isN x 9999
  | _ => True
def WI (w : Mm) : Prop := (∀ r j, j < wSz r → okC (nP w) (nK w) (nD w) r j (w r j)) ∧ ∀ d, d < nD w → w 17 d ≠ w 18 d
theorem WI.P {w : Mm} (h : WI w) : w 0 1 = nI (nP w) ∧ nP w ≤ 6 := (show isN (w 0 1) 6 from h.1 0 1 (by decide)).e (by decide)
theorem WI.K {w : Mm} (h : WI w) : w 0 2 = nI (nK w) ∧ nK w ≤ 6 := (show isN (w 0 2) 6 from h.1 0 2 (by decide)).e (by decide)
theorem WI.D {w : Mm} (h : WI w) : w 0 3 = nI (nD w) ∧ nD w ≤ 8 := (show isN (w 0 3) 8 from h.1 0 3 (by decide)).e (by decide)
theorem WI.T {w : Mm} (h : WI w) : isN (w 0 4) 9999 := h.1 0 4 (by decide)
theorem WI.age {w : Mm} (h : WI w) {j : Nat} (hj : j < nK w) : ∃ k, 1 ≤ k ∧ k ≤ 99 ∧ w 11 j = nI k := h.1 11 j (by have := h.K.2; show j < 6; omega) hj
theorem WI.keep {w : Mm} (h : WI w) {j : Nat} (hj : j < nK w) : isN (w 12 j) 99 := h.1 12 j (by have := h.K.2; show j < 6; omega) hj
theorem WI.soak {w : Mm} (h : WI w) {j : Nat} (hj : j < nK w) : isN (w 13 j) 9 := h.1 13 j (by have := h.K.2; show j < 6; omega) hj
theorem WI.damp {w : Mm} (h : WI w) {j : Nat} (hj : j < 4) : isN (w 9 j) 9 := h.1 9 j hj
theorem WI.broke {w : Mm} (h : WI w) {j : Nat} (hj : j < 6) : w 14 j = 0 ∨ w 14 j = 1 := h.1 14 j hj
theorem WI.paid {w : Mm} (h : WI w) {j : Nat} (hj : j < 8) : w 15 j = 0 ∨ w 15 j = 1 := h.1 15 j hj
theorem WI.ink {w : Mm} (h : WI w) {d : Nat} (hd : d < nD w) : ∃ k, k < nK w ∧ w 16 d = nI k := h.1 16 d (by have := h.D.2; show d < 8; omega) hd
theorem WI.deb {w : Mm} (h : WI w) {d : Nat} (hd : d < nD w) : ∃ k, k < nP w ∧ w 17 d = nI k := h.1 17 d (by have := h.D.2; show d < 8; omega) hd
theorem WI.cre {w : Mm} (h : WI w) {d : Nat} (hd : d < nD w) : ∃ k, k < nP w ∧ w 18 d = nI k := h.1 18 d (by have := h.D.2; show d < 8; omega) hd
theorem WI.sum {w : Mm} (h : WI w) {d : Nat} (hd : d < nD w) : isN (w 19 d) 99 := h.1 19 d (by have := h.D.2; show d < 8; omega) hd
theorem WI.lean {w : Mm} (h : WI w) {d : Nat} (hd : d < nD w) : isM (w 21 d) d := h.1 21 d (by have := h.D.2; show d < 8; omega) hd
theorem WI.bar {w : Mm} (h : WI w) {d : Nat} (hd : d < nD w) : isM (w 22 d) d := h.1 22 d (by have := h.D.2; show d < 8; omega) hd
theorem okZ_i {n : Nat} {f : Nat → Int32} (h : ∀ i, i < n → f i = 0 ∨ f i = 1) : okZ n f = true := by
  unfold okZ
  rw [List.all_eq_true]
  intro i hi
  rcases h i (List.mem_range.mp hi) with e | e <;> rw [e] <;> rfl
theorem WI.z {w : Mm} (h : WI w) : okZ 6 (w 14) = true ∧ okZ 8 (w 15) = true := ⟨okZ_i fun i hi => h.broke hi, okZ_i fun i hi => h.paid hi⟩
/-- counts that stay -/
def sameC (w v : Mm) : Prop := nP v = nP w ∧ nK v = nK w ∧ nD v = nD w
theorem sameC.rf {w : Mm} : sameC w w := ⟨rfl, rfl, rfl⟩
theorem sameC.tr {a b c : Mm} (h : sameC a b) (k : sameC b c) : sameC a c := ⟨k.1.trans h.1, k.2.1.trans h.2.1, k.2.2.trans h.2.2⟩
theorem sameC_mup {w : Mm} {r j : Nat} {x : Int32} (hr : r = 0 → 4 ≤ j) : sameC w (mup w r j x) := by
  unfold sameC nP nK nD
  by_cases e : r = 0
  · subst e
    have := hr rfl
    rw [mup_j (by omega), mup_j (by omega), mup_j (by omega)]
    exact ⟨rfl, rfl, rfl⟩
  · rw [mup_r (Ne.symm e)]
    exact ⟨rfl, rfl, rfl⟩
theorem WI.mup {w : Mm} (h : WI w) {r j : Nat} {x : Int32} (hr : r = 0 → 4 ≤ j) (h7 : r ≠ 17 ∧ r ≠ 18) (hx : okC (nP w) (nK w) (nD w) r j x) : WI (mup w r j x) := by
  obtain ⟨e1, e2, e3⟩ := sameC_mup (w := w) (x := x) hr
  unfold WI
  rw [e1, e2, e3]
  refine ⟨fun r' j' hj => ?_, fun d hd => ?_⟩
  · by_cases e : r' = r
    · subst e
      by_cases e2 : j' = j
      · subst e2
        rw [mup_s]
        exact hx
      · rw [mup_j e2]
        exact h.1 r' j' hj
    · rw [mup_r e]
      exact h.1 r' j' hj
  · rw [mup_r (Ne.symm h7.1), mup_r (Ne.symm h7.2)]
    exact h.2 d hd
theorem WI.log {w : Mm} (h : WI w) (f : Nat → Int32) : WI (mset w 27 f) := by
  unfold WI nP nK nD
  refine ⟨fun r' j' hj => ?_, fun d hd => ?_⟩
  · by_cases e : r' = 27
    · subst e
      exact trivial
    · rw [mset_r e, mset_r (show (0 : Nat) ≠ 27 by decide)]
      exact h.1 r' j' hj
  · rw [mset_r (show (17 : Nat) ≠ 27 by decide), mset_r (show (18 : Nat) ≠ 27 by decide)]
    exact h.2 d hd
theorem sameC_log {w : Mm} {f : Nat → Int32} : sameC w (mset w 27 f) := by
  unfold sameC nP nK nD
  rw [mset_r (show (0 : Nat) ≠ 27 by decide)]
  exact ⟨rfl, rfl, rfl⟩

/-! PURE: sets as bits -/
def bt (x : Int32) (i : Nat) : Bool := x.toBitVec.getLsbD i
theorem b_ext {x y : Int32} (h : ∀ i, i < 32 → bt x i = bt y i) : x = y := Int32.toBitVec_inj.mp (BitVec.eq_of_getLsbD_eq (fun i hi => h i hi))
theorem b_or (x y : Int32) (i : Nat) : bt (x ||| y) i = (bt x i || bt y i) := by unfold bt; rw [Int32.toBitVec_or, BitVec.getLsbD_or]
theorem b_and (x y : Int32) (i : Nat) : bt (x &&& y) i = (bt x i && bt y i) := by unfold bt; rw [Int32.toBitVec_and, BitVec.getLsbD_and]
theorem b_xor (x y : Int32) (i : Nat) : bt (x ^^^ y) i = (bt x i ^^ bt y i) := by unfold bt; rw [Int32.toBitVec_xor, BitVec.getLsbD_xor]
theorem b_big {x : Int32} {i : Nat} (h : 32 ≤ i) : bt x i = false := BitVec.getLsbD_of_ge _ _ h
theorem b_255 (i : Nat) : bt 255 i = decide (i < 8) := by
  rcases Nat.lt_or_ge i 32 with h | h
  · exact (by decide +kernel : ∀ i, i < 32 → bt 255 i = decide (i < 8)) i h
  · rw [b_big h, decide_eq_false (by omega)]
theorem b_65535 (i : Nat) : bt 65535 i = decide (i < 16) := by
  rcases Nat.lt_or_ge i 32 with h | h
  · exact (by decide +kernel : ∀ i, i < 32 → bt 65535 i = decide (i < 16)) i h
  · rw [b_big h, decide_eq_false (by omega)]
theorem b_m1 : ∀ i, i < 32 → bt (-1) i = true := by decide +kernel
theorem b_0 (i : Nat) : bt 0 i = false := BitVec.getLsbD_zero
theorem s_l : ∀ n, n < 32 → ((nI n &&& 31).toBitVec.smod 32).toNat = n := by decide +kernel
theorem s_u : ∀ n, n < 32 → (((nI n).toUInt32 &&& Int32.toUInt32 31).toBitVec % 32).toNat = n := by decide +kernel
theorem b_shl (n : Nat) (hn : n < 32) (x : Int32) {i : Nat} (hi : i < 32) : bt (x <<< (nI n &&& 31)) i = (decide (n ≤ i) && bt x (i - n)) := by
  unfold bt
  rw [Int32.toBitVec_shiftLeft]
  show (x.toBitVec <<< ((nI n &&& 31).toBitVec.smod 32).toNat).getLsbD i = _
  rw [s_l n hn, BitVec.getLsbD_shiftLeft]
  rcases Nat.lt_or_ge i n with h | h
  · simp [h, Nat.not_le.mpr h]
  · simp [hi, h, Nat.not_lt.mpr h]
theorem b_ushr (n : Nat) (hn : n < 32) (x : Int32) (i : Nat) : bt ((x.toUInt32 >>> ((nI n).toUInt32 &&& Int32.toUInt32 31)).toInt32) i = bt x (n + i) := by
  show (x.toUInt32 >>> ((nI n).toUInt32 &&& Int32.toUInt32 31)).toBitVec.getLsbD i = x.toUInt32.toBitVec.getLsbD (n + i)
  rw [UInt32.toBitVec_shiftRight]
  show (x.toUInt32.toBitVec >>> (((nI n).toUInt32 &&& Int32.toUInt32 31).toBitVec % 32).toNat).getLsbD i = _
  rw [s_u n hn, BitVec.getLsbD_ushiftRight]
theorem b_sshr (n : Nat) (hn : n < 32) (x : Int32) {i : Nat} (hi : i < 32) : bt (x >>> (nI n &&& 31)) i = if n + i < 32 then bt x (n + i) else bt x 31 := by
  unfold bt
  rw [Int32.toBitVec_shiftRight]
  show (x.toBitVec.sshiftRight ((nI n &&& 31).toBitVec.smod 32).toNat).getLsbD i = _
  rw [s_l n hn, BitVec.getLsbD_sshiftRight, BitVec.msb_eq_getLsbD_last]
  simp [hi]
theorem hasB_bt (x : Int32) {k : Nat} (hk : k < 31) : hasB x (nI k) = bt x k := by
  unfold hasB
  have key : ((x >>> (nI k &&& 31)) &&& 1 = 1) ↔ bt x k = true := by
    constructor
    · intro h
      have h1 : bt ((x >>> (nI k &&& 31)) &&& 1) 0 = true := by rw [h]; decide
      rw [b_and, b_sshr k (by omega) x (by omega), if_pos (by omega)] at h1
      simpa using (Bool.and_eq_true _ _ ▸ h1 : _ ∧ _).1
    · intro h
      apply b_ext
      intro i hi
      rw [b_and]
      by_cases h0 : i = 0
      · subst h0
        rw [b_sshr k (by omega) x (by omega), if_pos (by omega)]
        simp only [Nat.add_zero, h]
        decide
      · have h1 : bt 1 i = false := (by decide +kernel : ∀ i, i < 32 → i ≠ 0 → bt 1 i = false) i hi h0
        rw [h1, Bool.and_false]
  by_cases h : bt x k = true
  · rw [h]; exact decide_eq_true (key.mpr h)
  · have h' : bt x k = false := by simpa using h
    rw [h']
    exact decide_eq_false (fun q => h (key.mp q))
theorem bt_one (n : Nat) (hn : n < 32) {i : Nat} (hi : i < 32) : bt ((1 : Int32) <<< (nI n &&& 31)) i = decide (i = n) :=
  (by decide +kernel : ∀ n, n < 32 → ∀ i, i < 32 → bt ((1 : Int32) <<< (nI n &&& 31)) i = decide (i = n)) n hn i hi
theorem bt_sBits (n : Nat) (hn : n ≤ 32) (p : Nat → Bool) {i : Nat} (hi : i < 32) : bt (sBits n p) i = (decide (i < n) && p i) := by
  induction n with
  | zero => rw [show sBits 0 p = 0 from rfl, b_0]; simp
  | succ n ih =>
    rw [show sBits (n + 1) p = sBits n p ||| (if p n = true then (1 : Int32) <<< (nI n &&& 31) else 0) from rfl, b_or, ih (by omega)]
    by_cases c : p n = true
    · rw [if_pos c, bt_one n (by omega) hi]
      by_cases e : i = n
      · subst e; simp [c]
      · have : (i < n) ↔ (i < n + 1) := by omega
        simp [e, this]
    · rw [if_neg c, b_0, Bool.or_false]
      by_cases e : i = n
      · subst e; simp [Bool.not_eq_true _ ▸ c]
      · have : (i < n) ↔ (i < n + 1) := by omega
        simp [this]
theorem hasB_sBits {n : Nat} (hn : n ≤ 31) (p : Nat → Bool) {k : Nat} (hk : k < n) : hasB (sBits n p) (nI k) = p k := by
  rw [hasB_bt _ (by omega), bt_sBits n (by omega) p (by omega)]
  simp [hk]
theorem has_s (a b : Int32) : X1_has a b = some (b01 (hasB a b)) := by
  unfold X1_has hasB b01
  split <;> simp [*]
def inB (a l h : Int32) : Bool := !decide (a < l) && !decide (h < a)
theorem in_s (a l h : Int32) : X1_in a l h = some (b01 (inB a l h)) := by
  unfold X1_in inB b01
  split
  · simp [*]
  · split <;> simp [*]
theorem b01_0 (b : Bool) : b01 b = 0 ↔ b = false := by cases b <;> decide
theorem b01_1 (b : Bool) : b01 b = 1 ↔ b = true := by cases b <;> decide
theorem b01_n0 (b : Bool) : ¬ b01 b = 0 ↔ b = true := by cases b <;> decide
/-- loops that add a bit, or a number -/
theorem loop_bits {step : Int32 × Int32 → Option ((Int32 × Int32) ⊕ Int32)} (p : Nat → Bool) (N : Nat) (hN : N < FU) (hs : ∀ i acc, i < N → step (acc, nI i) = some (.inl (acc ||| (if p i = true then (1 : Int32) <<< (nI i &&& 31) else 0), nI (i + 1)))) (he : ∀ acc, step (acc, nI N) = some (.inr acc)) : loopO step FU (0, 0) = some (sBits N p) :=
  loopO_run (fun i => (sBits i p, nI i)) N hN (fun i hi => hs i _ hi) (he _)
theorem loop_sum {step : Int32 × Int32 → Option ((Int32 × Int32) ⊕ Int32)} (f : Nat → Int32) (N : Nat) (hN : N < FU) (hs : ∀ i acc, i < N → step (acc, nI i) = some (.inl (acc + f i, nI (i + 1)))) (he : ∀ acc, step (acc, nI N) = some (.inr acc)) : loopO step FU (0, 0) = some (sumI N f) :=
  loopO_run (fun i => (sumI i f, nI i)) N hN (fun i hi => hs i _ hi) (he _)
theorem FU8 {n : Nat} (h : n ≤ 8) : n < FU := by unfold FU; omega
/-! THE COMPONENT'S WORLD, what its methods say -/
def stB (w : Mm) (s : Int32) : Int32 := sBits (nD w) (fun d => decide (w 26 d = s))
def valB (w : Mm) (d : Nat) (reads : Int32) : Bool := hasB reads (nI d) && (decide (w 21 d = -1) || hasB reads (w 21 d)) && (decide (w 22 d = -1) || !hasB reads (w 22 d))
def vaB (w : Mm) (reads : Int32) : Int32 := sBits (nD w) (fun d => valB w d reads)
def paB (w : Mm) : Int32 := sBits (nD w) (fun d => decide (¬ w 15 d = 0))
def brB (w : Mm) : Int32 := sBits (nP w) (fun p => decide (¬ w 14 p = 0))
theorem X2_of_s {w : Mm} (h : WI w) (s : Int32) : X2_of w s = some (stB w s) := by
  unfold X2_of
  obtain ⟨e, hD⟩ := h.D
  refine ob1 (loop_bits (fun d => decide (w 26 d = s)) (nD w) (FU8 hD) (fun i acc hi => ?_) (fun acc => ?_)) rfl
  · unfold X2_of_L4
    rw [if_neg (by rw [e]; exact nI_ge hi (by omega)), ldN (by omega) (by decide)]
    by_cases c : w 26 i = s <;> simp [c, nI_1]
  · unfold X2_of_L4
    rw [if_pos (by rw [e]; exact nI_le (Nat.le_refl _) (by omega))]
theorem X2_paidOnes_s {w : Mm} (h : WI w) : X2_paidOnes w = some (paB w) := by
  unfold X2_paidOnes
  obtain ⟨e, hD⟩ := h.D
  refine ob1 (loop_bits (fun d => decide (¬ w 15 d = 0)) (nD w) (FU8 hD) (fun i acc hi => ?_) (fun acc => ?_)) rfl
  · unfold X2_paidOnes_L4
    rw [if_neg (by rw [e]; exact nI_ge hi (by omega)), ldN (by omega) (by decide)]
    by_cases c : w 15 i = 0 <;> simp [c, nI_1]
  · unfold X2_paidOnes_L4
    rw [if_pos (by rw [e]; exact nI_le (Nat.le_refl _) (by omega))]
theorem X2_brokeOnes_s {w : Mm} (h : WI w) : X2_brokeOnes w = some (brB w) := by
  unfold X2_brokeOnes
  obtain ⟨e, hD⟩ := h.P
  refine ob1 (loop_bits (fun d => decide (¬ w 14 d = 0)) (nP w) (FU8 (by omega)) (fun i acc hi => ?_) (fun acc => ?_)) rfl
  · unfold X2_brokeOnes_L4
    rw [if_neg (by rw [e]; exact nI_ge hi (by omega)), ldN (by omega) (by decide)]
    by_cases c : w 14 i = 0 <;> simp [c, nI_1]
  · unfold X2_brokeOnes_L4
    rw [if_pos (by rw [e]; exact nI_le (Nat.le_refl _) (by omega))]
theorem X2_isValid_s {w : Mm} {d : Nat} (hd : d < 8) (reads : Int32) : X2_isValid w (nI d) reads = some (b01 (valB w d reads)) := by
  unfold X2_isValid X2_isValid_J31
  simp only [has_s, ldN hd (by decide), obs, b01_0, valB]
  generalize hasB reads (nI d) = A
  generalize hasB reads (w 21 d) = B
  generalize hasB reads (w 22 d) = C
  generalize w 21 d = x
  generalize w 22 d = y
  by_cases c1 : x = -1 <;> by_cases c2 : y = -1 <;> cases A <;> cases B <;> cases C <;> simp [c1, c2, b01]
theorem X2_valid_s {w : Mm} (h : WI w) (reads : Int32) : X2_valid w reads = some (vaB w reads) := by
  unfold X2_valid
  obtain ⟨e, hD⟩ := h.D
  refine ob1 (loop_bits (fun d => valB w d reads) (nD w) (FU8 hD) (fun i acc hi => ?_) (fun acc => ?_)) rfl
  · unfold X2_valid_L4
    rw [if_neg (by rw [e]; exact nI_ge hi (by omega)), X2_isValid_s (by omega)]
    cases c : valB w i reads <;> simp [b01, nI_1]
  · unfold X2_valid_L4
    rw [if_pos (by rw [e]; exact nI_le (Nat.le_refl _) (by omega))]
/-- the log, a line more -/
def tellW (w : Mm) (d what n : Int32) : Mm := mup (mset w 27 (upd (upd (upd (upd (va_cpy (w 27) (w 27) 0 4 236) 0 (w 0 4)) 1 d) 2 what) 3 n)) 0 7 (if w 0 7 + 1 < 60 then w 0 7 + 1 else 60)
theorem X2_tells_s (w : Mm) (a b c : Int32) : X2_tells w a b c = some (tellW w a b c) := by
  unfold X2_tells
  rw [show acp 240 240 (w 27) (w 27) (0 : Int32) (4 : Int32) ((240 : Int32) - (4 : Int32)) = some (va_cpy (w 27) (w 27) 0 4 236) from by unfold acp; rw [if_pos (by decide)]; rfl]
  simp only [obs]
  rw [show ∀ (τ : Mm) (x : Int32), sto 240 τ 27 (0 : Int32) x = some (mup τ 27 0 x) from fun τ x => stoN (k := 0) (by decide) (by decide)]
  simp only [obs]
  rw [show ∀ (τ : Mm) (x : Int32), sto 240 τ 27 (1 : Int32) x = some (mup τ 27 1 x) from fun τ x => stoN (k := 1) (by decide) (by decide)]
  simp only [obs]
  rw [show ∀ (τ : Mm) (x : Int32), sto 240 τ 27 (2 : Int32) x = some (mup τ 27 2 x) from fun τ x => stoN (k := 2) (by decide) (by decide)]
  simp only [obs]
  rw [show ∀ (τ : Mm) (x : Int32), sto 240 τ 27 (3 : Int32) x = some (mup τ 27 3 x) from fun τ x => stoN (k := 3) (by decide) (by decide)]
  simp only [obs]
  unfold tellW
  congr 1
  funext r
  simp only [mup, mset]
  by_cases h0 : r = 0
  · subst h0; simp
  · by_cases h1 : r = 27
    · subst h1; simp
    · simp [h0, h1]
def upW (w : Mm) (d : Nat) : Mm := tellW (mup (mup w 26 d 1) 25 d (w 0 4)) (nI d) 0 0
theorem X2_comesUp_s (w : Mm) {d : Nat} (hd : d < 8) : X2_comesUp w (nI d) = some (upW w d) := by
  unfold X2_comesUp
  rw [stoN hd (by decide)]
  simp only [obs]
  rw [stoN hd (by decide)]
  simp only [obs, X2_tells_s]
  rw [mup_r (by decide)]
  rfl
/-- a deed fades -/
def fadeC (w : Mm) (d : Nat) : Bool := decide (w 26 d = 1) && (decide (¬ w 12 (tN (w 16 d)) = 0) && decide (w 12 (tN (w 16 d)) ≤ w 0 4 - w 25 d))
def fadeW (w : Mm) (d : Nat) : Mm := if fadeC w d = true then tellW (mup w 26 d 2) (nI d) 1 0 else w
theorem X2_fades_s {w : Mm} {d : Nat} (hd : d < 8) (hk : ∃ k, k < 6 ∧ w 16 d = nI k) : X2_fades w (nI d) = some (fadeW w d) := by
  obtain ⟨k, h1, h2⟩ := hk
  unfold X2_fades
  rw [ldN hd (by decide)]
  simp only [obs]
  rw [h2, ldN h1 (by decide)]
  simp only [obs]
  rw [ldN hd (by decide), ldN hd (by decide), stoN hd (by decide)]
  simp only [obs, X2_tells_s]
  unfold fadeW fadeC
  rw [h2, tN_nI (by omega)]
  by_cases c1 : w 26 d = 1 <;> by_cases c2 : w 12 k = 0 <;> by_cases c3 : w 12 k ≤ w 0 4 - w 25 d <;> simp [c1, c2, c3]
/-- a deed is paid -/
def payC (w : Mm) (d : Nat) : Bool := decide (w 15 d = 0) && (valB w d (stB w 1) && decide (w 20 d ≤ w 0 4 - w 25 d))
def payN (w : Mm) (d : Nat) : Int32 := if w 10 (tN (w 17 d)) < w 19 d then w 10 (tN (w 17 d)) else w 19 d
def payW (w : Mm) (d : Nat) : Mm :=
  let f := tN (w 17 d)
  let t := tN (w 18 d)
  let g := payN w d
  let w1 := mup w 10 f (w 10 f - g)
  let w2 := mup w1 10 t (if w1 10 t + g < 9999 then w1 10 t + g else 9999)
  let w3 := mup w2 14 f (w 14 f ||| b01 (decide (¬ g = w 19 d)))
  let w4 := mup w3 15 d 1
  tellW w4 (nI d) (if g = w 19 d then 2 else 3) g
theorem X2_pays_s {w : Mm} (h : WI w) {d : Nat} (hd : d < nD w) : X2_pays w (nI d) = some (b01 (payC w d), if payC w d = true then payW w d else w) := by
  have hD := h.D.2
  obtain ⟨a, ha, e1⟩ := h.deb hd
  obtain ⟨b, hb, e2⟩ := h.cre hd
  have hP := h.P.2
  have hz := h.broke (show a < 6 by omega)
  unfold X2_pays
  rw [ldN (by omega) (by decide)]
  simp only [obs, X2_of_s h, X2_isValid_s (show d < 8 by omega), b01_0]
  by_cases c1 : w 15 d = 0
  · rw [if_pos c1]
    by_cases c2 : valB w d (stB w 1) = false
    · rw [if_pos c2]
      simp [payC, c2, b01]
    · rw [if_neg c2, ldN (by omega) (by decide)]
      simp only [obs]
      rw [ldN (by omega) (by decide)]
      simp only [obs]
      have c2' : valB w d (stB w 1) = true := by cases hh : valB w d (stB w 1) <;> simp_all
      by_cases c3 : w 20 d ≤ w 0 4 - w 25 d
      · rw [if_pos c3, ldN (by omega) (by decide)]
        simp only [obs]
        rw [ldN (by omega) (by decide), e1]
        simp only [obs]
        rw [ldN (show a < 6 by omega) (by decide)]
        simp only [obs]
        have hg : (if w 10 a < w 19 d then w 10 a else w 19 d) = payN w d := by unfold payN; rw [e1, tN_nI (by omega)]
        rw [hg]
        have hw : payC w d = true := by simp [payC, c1, c2', c3]
        rw [hw, if_pos rfl]
        have key : ∀ y0 : Int32, y0 = b01 (decide (payN w d = w 19 d)) → X2_pays_J82 w (nI d) (nI a) (payN w d) y0 = some (b01 true, payW w d) := by
          intro y0 hy0
          unfold X2_pays_J82
          rw [ldN (show a < 6 by omega) (by decide)]
          simp only [obs]
          rw [stoN (show a < 6 by omega) (by decide)]
          simp only [obs]
          rw [mup_r (show (18 : Nat) ≠ 10 by decide), ldN (by omega) (by decide), e2]
          simp only [obs]
          rw [ldN (show b < 6 by omega) (by decide)]
          simp only [obs]
          rw [stoN (show b < 6 by omega) (by decide)]
          simp only [obs]
          rw [mup_r (show (14 : Nat) ≠ 10 by decide), mup_r (show (14 : Nat) ≠ 10 by decide), ldN (show a < 6 by omega) (by decide)]
          simp only [obs]
          unfold X2_pays_J141
          have zz : ∀ y : Int32, y = 0 ∨ y = 1 → zb (w 14 a ||| y) = some (w 14 a ||| y) := by
            intro y hy
            unfold zb
            rw [if_pos]
            rcases hz with q | q <;> rcases hy with r | r <;> rw [q, r] <;> decide
          rw [zz 1 (Or.inr rfl), zz 0 (Or.inl rfl)]
          simp only [obs]
          rw [stoN (show a < 6 by omega) (by decide), stoN (show a < 6 by omega) (by decide)]
          simp only [obs]
          rw [stoN (show d < 8 by omega) (by decide), stoN (show d < 8 by omega) (by decide)]
          simp only [obs, X2_tells_s]
          unfold payW
          rw [e1, e2, tN_nI (by omega), tN_nI (by omega), hy0]
          by_cases c : payN w d = w 19 d <;> simp [c, b01]
        by_cases c : payN w d = w 19 d
        · rw [if_pos c]; exact key 1 (by simp [c, b01])
        · rw [if_neg c]; exact key 0 (by simp [c, b01])
      · rw [if_neg c3]
        simp [payC, c3, b01]
  · rw [if_neg c1]
    simp [payC, c1, b01]
def seaV (w : Mm) : Int32 := w 0 4 - w 0 4 / 4 * 4
theorem X2_season_s (w : Mm) : X2_season w = some (seaV w) := rfl
