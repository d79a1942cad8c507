/-! PURE, TEXTS: scanning a text ch of E signs -/
def fstN (pr : Nat → Bool) (E : Nat) : Nat → Nat → Nat
  | 0, p => p
  | n + 1, p => if p < E ∧ pr p = true then fstN pr E n (p + 1) else p
def scn (pr : Nat → Bool) (E p : Nat) : Nat := fstN pr E (E - p) p
section SCAN
variable {pr : Nat → Bool} {E : Nat}
theorem fstN_ge : ∀ (n p : Nat), p ≤ fstN pr E n p := by
  intro n
  induction n with
  | zero => intro p; exact Nat.le_refl _
  | succ n ih =>
    intro p
    unfold fstN
    split
    · exact Nat.le_trans (Nat.le_succ p) (ih (p + 1))
    · exact Nat.le_refl _
theorem fstN_le : ∀ (n p : Nat), p ≤ E → fstN pr E n p ≤ E := by
  intro n
  induction n with
  | zero => intro p h; exact h
  | succ n ih =>
    intro p h
    unfold fstN
    split
    · next c => exact ih (p + 1) c.1
    · exact h
theorem fstN_in : ∀ (n p k : Nat), p ≤ k → k < fstN pr E n p → k < E ∧ pr k = true := by
  intro n
  induction n with
  | zero => intro p k h1 h2; unfold fstN at h2; omega
  | succ n ih =>
    intro p k h1 h2
    unfold fstN at h2
    split at h2
    · next c =>
      by_cases e : k = p
      · rw [e]; exact c
      · exact ih (p + 1) k (by omega) h2
    · omega
theorem fstN_end : ∀ (n p : Nat), E ≤ p + n → ¬ (fstN pr E n p < E ∧ pr (fstN pr E n p) = true) := by
  intro n
  induction n with
  | zero => intro p h g; unfold fstN at g; omega
  | succ n ih =>
    intro p h
    unfold fstN
    split
    · exact ih (p + 1) (by omega)
    · next c => exact c
theorem scn_ge (p : Nat) : p ≤ scn pr E p := fstN_ge _ _
theorem scn_le {p : Nat} (h : p ≤ E) : scn pr E p ≤ E := fstN_le _ _ h
theorem scn_in {p k : Nat} (h1 : p ≤ k) (h2 : k < scn pr E p) : k < E ∧ pr k = true := fstN_in _ _ _ h1 h2
theorem scn_end (p : Nat) : ¬ (scn pr E p < E ∧ pr (scn pr E p) = true) := fstN_end _ _ (by omega)
theorem scn_eq {p q : Nat} (h0 : p ≤ q) (h1 : ∀ k, p ≤ k → k < q → k < E ∧ pr k = true) (h2 : ¬ (q < E ∧ pr q = true)) : scn pr E p = q := by
  rcases Nat.lt_trichotomy (scn pr E p) q with h | h | h
  · exact absurd (h1 _ (scn_ge p) h) (scn_end p)
  · exact h
  · exact absurd (scn_in h0 h) h2
theorem scn_fix {p : Nat} (h : ¬ (p < E ∧ pr p = true)) : scn pr E p = p := scn_eq (Nat.le_refl p) (fun k h1 h2 => by omega) h
theorem scn_idem (p : Nat) : scn pr E (scn pr E p) = scn pr E p := scn_fix (scn_end p)
end SCAN
/-- bytes as signed numbers -/
def sb (n : Nat) : Int32 := if n < 128 then nI n else nI n - 256
theorem sb_lo {n : Nat} (h : n < 128) : sb n = nI n := if_pos h
theorem sb_all : ∀ n, n < 256 → (∀ c, c < 128 → (sb n = nI c ↔ n = c)) ∧ (inB (sb n) 97 122 = (decide (97 ≤ n) && decide (n ≤ 122))) ∧ (inB (sb n) 48 57 = (decide (48 ≤ n) && decide (n ≤ 57))) ∧ ¬ (sb n = -1 ∧ n < 128) := by decide +kernel
theorem nB_all : ∀ n, n < 256 → (inB (nI n) 97 122 = (decide (97 ≤ n) && decide (n ≤ 122))) ∧ (inB (nI n) 48 57 = (decide (48 ≤ n) && decide (n ≤ 57))) := by decide +kernel
def isSp (ch : Nat → Nat) : Nat → Bool := fun k => decide (ch k = 32)
def isLt (ch : Nat → Nat) : Nat → Bool := fun k => decide (97 ≤ ch k) && decide (ch k ≤ 122)
def isDg (ch : Nat → Nat) : Nat → Bool := fun k => decide (48 ≤ ch k) && decide (ch k ≤ 57)
/-- where the next thing begins; where its word, its number ends -/
def skp (ch : Nat → Nat) (E p : Nat) : Nat := scn (isSp ch) E p
def wnd (ch : Nat → Nat) (E p : Nat) : Nat := scn (isLt ch) E (skp ch E p)
def dnd (ch : Nat → Nat) (E p : Nat) : Nat := scn (isDg ch) E (skp ch E p)
section SKP
variable {ch : Nat → Nat} {E p k : Nat}
theorem skp_ge (p : Nat) : p ≤ skp ch E p := scn_ge p
theorem skp_le (h : p ≤ E) : skp ch E p ≤ E := scn_le h
theorem wnd_ge (p : Nat) : skp ch E p ≤ wnd ch E p := scn_ge _
theorem wnd_le (h : p ≤ E) : wnd ch E p ≤ E := scn_le (skp_le h)
theorem dnd_ge (p : Nat) : skp ch E p ≤ dnd ch E p := scn_ge _
theorem dnd_le (h : p ≤ E) : dnd ch E p ≤ E := scn_le (skp_le h)
theorem skp_in (h1 : p ≤ k) (h2 : k < skp ch E p) : k < E ∧ ch k = 32 := by
  obtain ⟨a, b⟩ := scn_in h1 h2
  exact ⟨a, of_decide_eq_true b⟩
theorem isLt_e (k : Nat) : isLt ch k = true ↔ 97 ≤ ch k ∧ ch k ≤ 122 := by
  unfold isLt
  rw [Bool.and_eq_true, decide_eq_true_eq, decide_eq_true_eq]
theorem isDg_e (k : Nat) : isDg ch k = true ↔ 48 ≤ ch k ∧ ch k ≤ 57 := by
  unfold isDg
  rw [Bool.and_eq_true, decide_eq_true_eq, decide_eq_true_eq]
theorem wnd_in (h1 : skp ch E p ≤ k) (h2 : k < wnd ch E p) : k < E ∧ 97 ≤ ch k ∧ ch k ≤ 122 := by
  obtain ⟨a, b⟩ := scn_in h1 h2
  exact ⟨a, (isLt_e k).mp b⟩
theorem dnd_in (h1 : skp ch E p ≤ k) (h2 : k < dnd ch E p) : k < E ∧ 48 ≤ ch k ∧ ch k ≤ 57 := by
  obtain ⟨a, b⟩ := scn_in h1 h2
  exact ⟨a, (isDg_e k).mp b⟩
theorem skp_end (p : Nat) : ¬ (skp ch E p < E ∧ ch (skp ch E p) = 32) := fun g => scn_end (pr := isSp ch) (E := E) p ⟨g.1, decide_eq_true g.2⟩
theorem wnd_end (p : Nat) : ¬ (wnd ch E p < E ∧ 97 ≤ ch (wnd ch E p) ∧ ch (wnd ch E p) ≤ 122) := fun g => scn_end (pr := isLt ch) (E := E) (skp ch E p) ⟨g.1, (isLt_e _).mpr g.2⟩
theorem dnd_end (p : Nat) : ¬ (dnd ch E p < E ∧ 48 ≤ ch (dnd ch E p) ∧ ch (dnd ch E p) ≤ 57) := fun g => scn_end (pr := isDg ch) (E := E) (skp ch E p) ⟨g.1, (isDg_e _).mpr g.2⟩
theorem skp_idem (p : Nat) : skp ch E (skp ch E p) = skp ch E p := scn_idem p
theorem wnd_skp (p : Nat) : wnd ch E (skp ch E p) = wnd ch E p := by
  unfold wnd
  rw [skp_idem]
theorem dnd_skp (p : Nat) : dnd ch E (skp ch E p) = dnd ch E p := by
  unfold dnd
  rw [skp_idem]
theorem skp_far (h : E ≤ p) : skp ch E p = p := scn_fix (fun g => by omega)
/-- at a sign that isn't a letter there is no word -/
theorem wnd_no (h : ¬ (skp ch E p < E ∧ 97 ≤ ch (skp ch E p) ∧ ch (skp ch E p) ≤ 122)) : wnd ch E p = skp ch E p := scn_fix (fun g => h ⟨g.1, (isLt_e _).mp g.2⟩)
theorem lt_bool {n : Nat} (h : 97 ≤ n ∧ n ≤ 122) : (decide (97 ≤ n) && decide (n ≤ 122)) = true := by simp [h.1, h.2]
theorem lt_boolF {n : Nat} (h : ¬ (97 ≤ n ∧ n ≤ 122)) : (decide (97 ≤ n) && decide (n ≤ 122)) = false := by
  cases e : (decide (97 ≤ n) && decide (n ≤ 122)) with
  | false => rfl
  | true =>
    rw [Bool.and_eq_true, decide_eq_true_eq, decide_eq_true_eq] at e
    exact absurd e h
theorem dg_bool {n : Nat} (h : 48 ≤ n ∧ n ≤ 57) : (decide (48 ≤ n) && decide (n ≤ 57)) = true := by simp [h.1, h.2]
theorem dg_boolF {n : Nat} (h : ¬ (48 ≤ n ∧ n ≤ 57)) : (decide (48 ≤ n) && decide (n ≤ 57)) = false := by
  cases e : (decide (48 ≤ n) && decide (n ≤ 57)) with
  | false => rfl
  | true =>
    rw [Bool.and_eq_true, decide_eq_true_eq, decide_eq_true_eq] at e
    exact absurd e h
end SKP
/-- the word from p on is the constant i -/
def wq (ch : Nat → Nat) (E p i : Nat) : Bool := decide (wnd ch E p - skp ch E p = lenS.getD i 0 ∧ ∀ j, j < lenS.getD i 0 → nI (ch (skp ch E p + j)) = sBy i j)
theorem wq_skp (ch : Nat → Nat) (E p i : Nat) : wq ch E (skp ch E p) i = wq ch E p i := by
  unfold wq
  rw [wnd_skp, skp_idem]
/-! the component's reader: at p, begun at b, d deep -/
def rdM (m : Mm) (p : Nat) (b : Int32) (d : Nat) : Mm := fun r j => if r = 1 then (if j = 3 then nI p else if j = 4 then b else if j = 6 then nI d else m 1 j) else m r j
def rd (σ : Cs) (p : Nat) (b : Int32) (d : Nat) : Cs := cou σ (rdM (co σ) p b d)
theorem rdM_3 {m : Mm} {p q d : Nat} {b : Int32} : mup (rdM m p b d) 1 3 (nI q) = rdM m q b d := by
  funext r j
  unfold mup upd rdM
  by_cases h : r = 1
  · by_cases h3 : j = 3 <;> simp [h, h3]
  · simp [h]
theorem rdM_4 {m : Mm} {p d : Nat} {b c : Int32} : mup (rdM m p b d) 1 4 c = rdM m p c d := by
  funext r j
  unfold mup upd rdM
  by_cases h : r = 1
  · by_cases h3 : j = 4
    · subst h3; simp [h]
    · simp [h, h3]
  · simp [h]
theorem rdM_6 {m : Mm} {p d e : Nat} {b : Int32} : mup (rdM m p b d) 1 6 (nI e) = rdM m p b e := by
  funext r j
  unfold mup upd rdM
  by_cases h : r = 1
  · by_cases h3 : j = 6
    · subst h3; simp [h]
    · simp [h, h3]
  · simp [h]
theorem rd_cou {σ : Cs} {p d : Nat} {b : Int32} {m : Mm} : cou (rd σ p b d) m = cou σ m := rfl
theorem rd_co {σ : Cs} {p d : Nat} {b : Int32} : co (rd σ p b d) = rdM (co σ) p b d := rfl
theorem rd_p {σ : Cs} {p q d : Nat} {b : Int32} : cou (rd σ p b d) (mup (co (rd σ p b d)) 1 3 (nI q)) = rd σ q b d := by rw [rd_cou, rd_co, rdM_3]; rfl
theorem rd_p' {σ : Cs} {p q d : Nat} {b y : Int32} (hy : y = nI q) : cou (rd σ p b d) (mup (co (rd σ p b d)) 1 3 y) = rd σ q b d := by rw [hy]; exact rd_p
theorem rd_b {σ : Cs} {p d : Nat} {b c : Int32} : cou (rd σ p b d) (mup (co (rd σ p b d)) 1 4 c) = rd σ p c d := by rw [rd_cou, rd_co, rdM_4]; rfl
theorem rd_d {σ : Cs} {p d e : Nat} {b : Int32} : cou (rd σ p b d) (mup (co (rd σ p b d)) 1 6 (nI e)) = rd σ p b e := by rw [rd_cou, rd_co, rdM_6]; rfl
theorem rd_3 {σ : Cs} {p d : Nat} {b : Int32} : co (rd σ p b d) 1 3 = nI p := rfl
theorem rd_4 {σ : Cs} {p d : Nat} {b : Int32} : co (rd σ p b d) 1 4 = b := rfl
theorem rd_6 {σ : Cs} {p d : Nat} {b : Int32} : co (rd σ p b d) 1 6 = nI d := rfl
theorem rd_2 {σ : Cs} {p d : Nat} {b : Int32} : co (rd σ p b d) 1 2 = co σ 1 2 := rfl
theorem rd_t {σ : Cs} {p d : Nat} {b : Int32} : co (rd σ p b d) 2 = co σ 2 := rfl
theorem rd_w {σ : Cs} {p d : Nat} {b : Int32} : cw (rd σ p b d) = cw σ := rfl
theorem rd_l {σ : Cs} {p d : Nat} {b : Int32} : cl (rd σ p b d) = cl σ := rfl
/-- the text under the reader -/
def CB (σ : Cs) (ch : Nat → Nat) (E : Nat) : Prop := co σ 1 2 = nI E ∧ E ≤ 400 ∧ ∀ k, k < E → ch k < 256 ∧ co σ 2 k = sb (ch k)
theorem nI_ne {i j : Nat} (hi : i < 2 ^ 31) (hj : j < 2 ^ 31) (h : i ≠ j) : ¬ nI i = nI j := fun g => h ((nI_eq hi hj).mp g)
theorem FU4 {n : Nat} (h : n ≤ 400) : n < FU := by unfold FU; omega
section RDS
variable {σ : Cs} {ch : Nat → Nat} {E p d : Nat} {b : Int32}
theorem X3_byteAt_s (h : CB σ ch E) {q : Nat} (hq : q ≤ E) : X3_byteAt (rd σ p b d) (nI q) = some (if q < E then sb (ch q) else -1) := by
  have hE := h.2.1
  unfold X3_byteAt
  rw [rd_2, h.1, rd_t]
  by_cases c : q < E
  · rw [if_neg (nI_ge c (by omega)), if_pos c, ldN (by omega) (by decide)]
    simp only [obs]
    rw [(h.2.2 q c).2]
  · rw [if_pos (nI_le (by omega) (by omega)), if_neg c]
theorem X3_blanks_s (h : CB σ ch E) (hp : p ≤ E) : X3_blanks (rd σ p b d) = some (rd σ (skp ch E p) (nI (skp ch E p)) d) := by
  have hE := h.2.1
  have h1 := skp_ge (ch := ch) (E := E) p
  have h2 := skp_le (ch := ch) hp
  have key : loopO X3_blanks_L0 FU (rd σ p b d) = some (rd σ (skp ch E p) b d) := by
    refine loopO_run (fun i => rd σ (p + i) b d) (skp ch E p - p) (FU4 (by omega)) (fun i hi => ?_) ?_
    · obtain ⟨g1, g3⟩ := skp_in (ch := ch) (E := E) (p := p) (k := p + i) (by omega) (by omega)
      unfold X3_blanks_L0
      rw [rd_3, X3_byteAt_s h (by omega), if_pos g1]
      simp only [obs]
      rw [if_pos (by rw [g3]; rfl), nI_1, rd_p]
      rfl
    · have g := skp_end (ch := ch) (E := E) p
      show X3_blanks_L0 (rd σ (p + (skp ch E p - p)) b d) = _
      rw [show p + (skp ch E p - p) = skp ch E p by omega]
      unfold X3_blanks_L0
      rw [rd_3, X3_byteAt_s h h2]
      simp only [obs]
      rw [if_neg]
      intro e
      by_cases c : skp ch E p < E
      · rw [if_pos c] at e
        exact g ⟨c, ((sb_all _ (h.2.2 _ c).1).1 32 (by decide)).mp e⟩
      · rw [if_neg c] at e
        exact absurd e (by decide)
  unfold X3_blanks
  rw [key]
  simp only [obs]
  rw [rd_3, rd_b]
theorem X3_scan_s (h : CB σ ch E) (hp : p ≤ E) : X3_scan (rd σ p b d) = some (rd σ (wnd ch E p) (nI (skp ch E p)) d) := by
  have hE := h.2.1
  have h1 := wnd_ge (ch := ch) (E := E) p
  have h0 := skp_le (ch := ch) hp
  have h2 := wnd_le (ch := ch) hp
  unfold X3_scan
  rw [X3_blanks_s h hp]
  simp only [obs]
  generalize hb : nI (skp ch E p) = b'
  have key : loopO X3_word_L4 FU (rd σ (skp ch E p) b' d) = some (rd σ (wnd ch E p) b' d) := by
    refine loopO_run (fun i => rd σ (skp ch E p + i) b' d) (wnd ch E p - skp ch E p) (FU4 (by omega)) (fun i hi => ?_) ?_
    · obtain ⟨g1, g2⟩ := wnd_in (ch := ch) (E := E) (p := p) (k := skp ch E p + i) (by omega) (by omega)
      unfold X3_word_L4
      rw [rd_3, X3_byteAt_s h (by omega), if_pos g1]
      simp only [obs, in_s, (sb_all _ (h.2.2 _ g1).1).2.1]
      rw [lt_bool g2, if_neg (by decide), nI_1, rd_p]
      rfl
    · have g := wnd_end (ch := ch) (E := E) p
      show X3_word_L4 (rd σ (skp ch E p + (wnd ch E p - skp ch E p)) b' d) = _
      rw [show skp ch E p + (wnd ch E p - skp ch E p) = wnd ch E p by omega]
      unfold X3_word_L4
      rw [rd_3, X3_byteAt_s h h2]
      simp only [obs, in_s]
      by_cases c : wnd ch E p < E
      · rw [if_pos c, (sb_all _ (h.2.2 _ c).1).2.1]
        rw [lt_boolF (fun q => g ⟨c, q⟩)]
        rfl
      · rw [if_neg c]
        rfl
  rw [key]
  rfl
theorem wbg_rd {s : Nat} (hs : s < 2 ^ 31) : wbg (rd σ p (nI s) d) = s := by
  show (nI s).toNatClampNeg = s
  exact nI_clamp hs
theorem wlen_rd {s : Nat} (hs : s < 2 ^ 31) (hp : p < 2 ^ 31) : wlen (rd σ p (nI s) d) = p - s := by
  show (nI p).toNatClampNeg - (nI s).toNatClampNeg = p - s
  rw [nI_clamp hs, nI_clamp hp]
theorem wby_rd {s j : Nat} (hs : s < 2 ^ 31) : wby (rd σ p (nI s) d) j = co σ 2 (s + j) := by
  unfold wby
  rw [wbg_rd hs]
  rfl
theorem X3_word_s (h : CB σ ch E) (hp : p ≤ E) : X3_word (rd σ p b d) = some (rd σ (wnd ch E p) (nI (skp ch E p)) d) := by
  have hE := h.2.1
  have h1 := wnd_ge (ch := ch) (E := E) p
  have h0 := skp_le (ch := ch) hp
  have h2 := wnd_le (ch := ch) hp
  unfold X3_word
  rw [X3_scan_s h hp]
  simp only [obs]
  rw [if_pos]
  unfold wOk
  rw [wlen_rd (by omega) (by omega), wbg_rd (by omega), rd_4, rd_3, nI_clamp (by omega)]
  simp only [Bool.and_eq_true, decide_eq_true_eq, List.all_eq_true, List.mem_range]
  refine ⟨⟨⟨⟨nI_pos (by omega), nI_pos (by omega)⟩, h1⟩, by omega⟩, fun j hj => ?_⟩
  obtain ⟨g1, g3⟩ := wnd_in (ch := ch) (E := E) (p := p) (k := skp ch E p + j) (by omega) (by omega)
  rw [wby_rd (by omega), (h.2.2 _ g1).2, sb_lo (by omega)]
  exact ⟨nI_pos (by omega), fun g => by
    have := (nI_ltI (a := 127) (b := ch (skp ch E p + j)) (by decide) (by omega)).mp g
    omega⟩
theorem weq_s (h : CB σ ch E) (hp : p ≤ E) (i : Nat) : weq (rd σ (wnd ch E p) (nI (skp ch E p)) d) i = b01 (wq ch E p i) := by
  have hE := h.2.1
  have h1 := wnd_ge (ch := ch) (E := E) p
  have h0 := skp_le (ch := ch) hp
  have h2 := wnd_le (ch := ch) hp
  have e : (wnd ch E p - skp ch E p = lenS.getD i 0 ∧ ∀ j, j < wnd ch E p - skp ch E p → co σ 2 (skp ch E p + j) = sBy i j) ↔ (wnd ch E p - skp ch E p = lenS.getD i 0 ∧ ∀ j, j < lenS.getD i 0 → nI (ch (skp ch E p + j)) = sBy i j) := by
    have hc : ∀ j, j < wnd ch E p - skp ch E p → co σ 2 (skp ch E p + j) = nI (ch (skp ch E p + j)) := fun j hj => by
      obtain ⟨g1, g2⟩ := wnd_in (ch := ch) (E := E) (p := p) (k := skp ch E p + j) (by omega) (by omega)
      rw [(h.2.2 _ g1).2, sb_lo (by omega)]
    constructor
    · rintro ⟨a, c⟩
      exact ⟨a, fun j hj => by rw [← hc j (by omega)]; exact c j (by omega)⟩
    · rintro ⟨a, c⟩
      exact ⟨a, fun j hj => by rw [hc j hj]; exact c j (by omega)⟩
  unfold weq beq8 wq b01
  rw [wlen_rd (by omega) (by omega)]
  simp only [wby_rd (show skp ch E p < 2 ^ 31 by omega), decide_eq_true_eq]
  by_cases c : wnd ch E p - skp ch E p = lenS.getD i 0 ∧ ∀ j, j < lenS.getD i 0 → nI (ch (skp ch E p + j)) = sBy i j
  · rw [if_pos c, if_pos (e.mpr c)]
  · rw [if_neg c, if_neg (fun g => c (e.mp g))]
theorem weqR_s (h : CB σ ch E) (hp : p ≤ E) (i : Nat) : weqR (rd σ (wnd ch E p) (nI (skp ch E p)) d) i = b01 (wq ch E p i) := by
  rw [← weq_s (d := d) h hp i]
  unfold weqR weq beq8
  by_cases c : wlen (rd σ (wnd ch E p) (nI (skp ch E p)) d) = lenS.getD i 0
  · simp only [c, true_and]
    congr 1
    exact propext ⟨fun g j hj => (g j hj).symm, fun g j hj => (g j hj).symm⟩
  · rw [if_neg (fun g => c g.1.symm), if_neg (fun g => c g.1)]
theorem X3_sign_s (h : CB σ ch E) (hp : p ≤ E) {c : Nat} (hc : c < 128) : X3_sign (rd σ p b d) (nI c) = some (b01 (decide (skp ch E p < E ∧ ch (skp ch E p) = c)), rd σ (if skp ch E p < E ∧ ch (skp ch E p) = c then skp ch E p + 1 else skp ch E p) (nI (skp ch E p)) d) := by
  have h0 := skp_le (ch := ch) hp
  unfold X3_sign
  rw [X3_blanks_s h hp]
  simp only [obs]
  rw [rd_3, X3_byteAt_s h h0]
  simp only [obs]
  by_cases k : skp ch E p < E
  · rw [if_pos k]
    have e := (sb_all _ (h.2.2 _ k).1).1 c hc
    by_cases k2 : ch (skp ch E p) = c
    · rw [if_pos (e.mpr k2), if_pos ⟨k, k2⟩, nI_1, rd_p, decide_eq_true ⟨k, k2⟩]
      rfl
    · rw [if_neg (fun g => k2 (e.mp g)), if_neg (fun g => k2 g.2), decide_eq_false (fun g => k2 g.2)]
      rfl
  · have h9 : ∀ c, c < 128 → ¬ (-1 : Int32) = nI c := by decide +kernel
    rw [if_neg k, if_neg (h9 c hc), if_neg (fun g => k g.1), decide_eq_false (fun g => k g.1)]
    rfl
theorem X3_isFigure_s (h : CB σ ch E) (hp : p ≤ E) : X3_isFigure (rd σ p b d) = some (b01 (decide (skp ch E p < E) && isDg ch (skp ch E p)), rd σ (skp ch E p) (nI (skp ch E p)) d) := by
  have h0 := skp_le (ch := ch) hp
  unfold X3_isFigure
  rw [X3_blanks_s h hp]
  simp only [obs]
  rw [rd_3, X3_byteAt_s h h0]
  simp only [obs, in_s, zb_b01]
  by_cases k : skp ch E p < E
  · rw [if_pos k, (sb_all _ (h.2.2 _ k).1).2.2.1, decide_eq_true k]
    rfl
  · rw [if_neg k, decide_eq_false k]
    rfl
theorem X3_isOver_s (h : CB σ ch E) (hp : p ≤ E) : X3_isOver (rd σ p b d) = some (b01 (decide (skp ch E p = E)), rd σ (skp ch E p) (nI (skp ch E p)) d) := by
  have hE := h.2.1
  have h0 := skp_le (ch := ch) hp
  unfold X3_isOver
  rw [X3_blanks_s h hp]
  simp only [obs]
  rw [rd_3, rd_2, h.1]
  by_cases k : skp ch E p = E
  · rw [if_pos (by rw [k]), decide_eq_true k]
    rfl
  · rw [if_neg (nI_ne (by omega) (by omega) k), decide_eq_false k]
    rfl
theorem X3_passes_s (h : CB σ ch E) (hp : p ≤ E) (i : Nat) : ∃ K, X3_passes (rd σ p b d) i = some (.inl (b01 (wq ch E p i), rd σ (if wq ch E p i = true then wnd ch E p else skp ch E p) (nI (skp ch E p)) d), K) ∧ K = (4 + wcc (wnd ch E p - skp ch E p), 28 + wcs (wnd ch E p - skp ch E p) + (wnd ch E p - skp ch E p)) := by
  have hE := h.2.1
  have h1 := wnd_ge (ch := ch) (E := E) p
  have h0 := skp_le (ch := ch) hp
  have h2 := wnd_le (ch := ch) hp
  refine ⟨_, ?_, rfl⟩
  unfold X3_passes
  rw [X3_word_s h hp]
  simp only [obs]
  rw [weq_s h hp i]
  unfold wC wS
  rw [wlen_rd (by omega) (by omega)]
  cases e : wq ch E p i with
  | true =>
    rw [if_neg (by decide), if_pos rfl]
    rfl
  | false =>
    rw [if_pos (by decide), if_neg (by decide), rd_4, rd_p]
    rfl
end RDS
