/-! the law's objects carried along: what a step may change (Kp); lists that grow (GL) -/
abbrev FcV : Type := (Nat → Int32) → Int32
abbrev FcP : Type := (FcV × Cs) ⊕ Cs
def Kp (o : Nat) (H H1 : Heap) : Prop := H.size ≤ H1.size ∧ ∀ q : Nat, q < H.size → ¬ rC o q → H1[q]? = H[q]?
section LAWMV
variable {D : va_G} {J : Nat → ClassId} {G G' : Nat → Prop} {aF : Nat → Nat} {H H1 : Heap}
theorem PartAt.mv {q : Nat} {g : FcV} (h : PartAt D G aF q g H) (hq : ∀ q : Nat, q < H.size → G q → G' q ∧ H1[q]? = H[q]?) : PartAt D G' aF q g H1 := by
  obtain ⟨h0, h⟩ := h
  rcases h with ⟨n, h1, h2⟩ | ⟨n, i, h1, h2, h3⟩
  · exact ⟨(hq _ h1.lt h0).1, Or.inl ⟨n, h1.kept (hq _ h1.lt h0).2, h2⟩⟩
  · exact ⟨(hq _ h2.lt h0).1, Or.inr ⟨n, i, h1, h2.kept (hq _ h2.lt h0).2, h3⟩⟩
theorem ListAt.mv {q n : Nat} {els : Nat → Nat} (h : ListAt D J G q n els H) (hq : ∀ q : Nat, q < H.size → G q → G' q ∧ H1[q]? = H[q]?) : ListAt D J G' q n els H1 := by
  obtain ⟨h0, mc, arr, cap, f, h1, h2, h3, h4⟩ := h
  exact ⟨(hq _ h2.lt h0).1, mc, arr, cap, f, (hq _ h3.lt h1).1, h2.kept (hq _ h2.lt h0).2, h3.kept (hq _ h3.lt h1).2, h4⟩
theorem SumAt.mv {q : Nat} {f : FcV} (h : SumAt D J G aF q f H) (hq : ∀ q : Nat, q < H.size → G q → G' q ∧ H1[q]? = H[q]?) : SumAt D J G' aF q f H1 := by
  obtain ⟨h0, lst, n, els, gs, h1, h2, h3, h4⟩ := h
  exact ⟨(hq _ h1.lt h0).1, lst, n, els, gs, h1.kept (hq _ h1.lt h0).2, h2.mv hq, fun i hi => (h3 i hi).mv hq, h4⟩
theorem CondAt.mv (hq : ∀ q : Nat, q < H.size → G q → G' q ∧ H1[q]? = H[q]?) : ∀ (d q : Nat) (f : FcV), CondAt D J G aF d q f H → CondAt D J G' aF d q f H1 := by
  intro d
  induction d with
  | zero => intro q f h; exact h
  | succ d ih =>
    intro q f h
    obtain ⟨h0, h⟩ := h
    rcases h with ⟨b, h1, h2, h3⟩ | ⟨a, g, h1, h2, h3⟩ | ⟨a, b, g, h, h1, h2, h3, h4⟩ | ⟨all, lst, n, els, gs, h1, h2, h3, h4, h5⟩
    · exact ⟨(hq _ h2.lt h0).1, Or.inl ⟨b, h1, h2.kept (hq _ h2.lt h0).2, h3⟩⟩
    · exact ⟨(hq _ h1.lt h0).1, Or.inr (Or.inl ⟨a, g, h1.kept (hq _ h1.lt h0).2, ih a g h2, h3⟩)⟩
    · exact ⟨(hq _ h1.lt h0).1, Or.inr (Or.inr (Or.inl ⟨a, b, g, h, h1.kept (hq _ h1.lt h0).2, h2.mv hq, h3.mv hq, h4⟩))⟩
    · exact ⟨(hq _ h2.lt h0).1, Or.inr (Or.inr (Or.inr ⟨all, lst, n, els, gs, h1, h2.kept (hq _ h2.lt h0).2, h3.mv hq, fun i hi => ih _ _ (h4 i hi), h5⟩))⟩
theorem LineAt.mv {q kd : Nat} {n : Int32} {w : FcV} (h : LineAt D J G aF q kd n w H) (hq : ∀ q : Nat, q < H.size → G q → G' q ∧ H1[q]? = H[q]?) : LineAt D J G' aF q kd n w H1 := by
  obtain ⟨h0, h1, h⟩ := h
  rcases h with ⟨h2, h3⟩ | ⟨c, d, hd, h2, h3⟩
  · exact ⟨(hq _ h2.lt h0).1, h1, Or.inl ⟨h2.kept (hq _ h2.lt h0).2, h3⟩⟩
  · exact ⟨(hq _ h2.lt h0).1, h1, Or.inr ⟨c, d, hd, h2.kept (hq _ h2.lt h0).2, CondAt.mv hq d c w h3⟩⟩
/-- what an element of a list is: it can be moved, and it is an object -/
def ElOK (D : va_G) (E : Nat → (Nat → Prop) → Nat → Heap → Prop) : Prop := ∀ (i : Nat) (G : Nat → Prop) (a : Nat) (H : Heap), E i G a H → G a ∧ (∃ (ci k : Nat) (fs : List Value) (C : String) (T : u_T) (N : Nat), vwC[ci]? = some (C, T, N) ∧ castL[k]? = some C ∧ va_at D vwC (a, .inr (ci, fs)) H) ∧ ∀ (G' : Nat → Prop) (H1 : Heap), (∀ q : Nat, q < H.size → G q → G' q ∧ H1[q]? = H[q]?) → E i G' a H1
theorem ElOK.part (gs : Nat → FcV) : ElOK D (fun i G a H => PartAt D G aF a (gs i) H) := fun i G a H h => ⟨h.1, by
  obtain ⟨h0, h⟩ := h
  rcases h with ⟨n, h1, h2⟩ | ⟨n, i, h1, h2, h3⟩
  · exact ⟨13, 4, _, _, _, _, rfl, rfl, h1⟩
  · exact ⟨13, 4, _, _, _, _, rfl, rfl, h2⟩, fun G' H1 hq => h.mv hq⟩
theorem ElOK.cond (d : Nat) (gs : Nat → FcV) : ElOK D (fun i G a H => CondAt D J G aF (d + 1) a (gs i) H) := fun i G a H h => ⟨h.1, by
  obtain ⟨h0, h⟩ := h
  rcases h with ⟨b, h1, h2, h3⟩ | ⟨a, g, h1, h2, h3⟩ | ⟨a, b, g, h, h1, h2, h3, h4⟩ | ⟨all, lst, n, els, gs, h1, h2, h3, h4, h5⟩
  · exact ⟨11, 3, _, _, _, _, rfl, rfl, h2⟩
  · exact ⟨10, 2, _, _, _, _, rfl, rfl, h1⟩
  · exact ⟨14, 5, _, _, _, _, rfl, rfl, h1⟩
  · exact ⟨9, 1, _, _, _, _, rfl, rfl, h2⟩, fun G' H1 hq => CondAt.mv hq _ _ _ h⟩
theorem ElOK.line (ls : Nat → Nat × Int32 × FcV) : ElOK D (fun i G a H => LineAt D J G aF a (ls i).1 (ls i).2.1 (ls i).2.2 H) := fun i G a H h => ⟨h.1, by
  obtain ⟨h0, h1, h⟩ := h
  rcases h with ⟨h2, h3⟩ | ⟨c, d, hd, h2, h3⟩
  · exact ⟨8, 0, _, _, _, _, rfl, rfl, h2⟩
  · exact ⟨8, 0, _, _, _, _, rfl, rfl, h2⟩, fun G' H1 hq => h.mv hq⟩
end LAWMV
/-- a list that grows, with its owner; M bounds its cells -/
def GL (D : va_G) (J : Nat → ClassId) (N9 M e0 : Nat) (E : Nat → (Nat → Prop) → Nat → Heap → Prop) (ow : Nat × va_E) (lst n cap : Nat) (els : Nat → Nat) (H : Heap) : Prop := ∃ (mc : Int32) (arr : Nat) (f : Nat → Option Nat), (N9 ≤ ow.1 ∧ ow.1 < lst ∧ lst < M ∧ arr < M ∧ M ≤ H.size) ∧ va_at D vwC ow H ∧ va_at D vwC (lst, .inr (6, [.int mc, .ref arr, .int (nI n)])) H ∧ va_at D vwC (arr, qc (J 4) cap f) H ∧ (cap = 0 → arr = e0) ∧ (0 < cap → N9 ≤ arr) ∧ (arr ≠ lst ∧ arr ≠ ow.1) ∧ n ≤ cap ∧ cap < 2 ^ 20 ∧ (∀ i, i < n → f i = some (els i)) ∧ ∀ i, i < n → E i (fun q => N9 ≤ q ∧ q ≠ lst ∧ q ≠ arr) (els i) H
def acC (n cap : Nat) : Nat := if n = cap then 1 else 0
def acS (n cap : Nat) : Nat := if n = cap then gcap cap else 0
def ncap (n cap : Nat) : Nat := if n = cap then gcap cap else cap
def eup (els : Nat → Nat) (n v : Nat) : Nat → Nat := fun i => if i = n then v else els i
def gup (gs : Nat → FcV) (n : Nat) (g : FcV) : Nat → FcV := fun i => if i = n then g else gs i
section GLS
variable {D : va_G} {J : Nat → ClassId} {o z N9 M e0 : Nat} {aK aV aF : Nat → Nat} {G Ld : Nat → Prop} {E E' : Nat → (Nat → Prop) → Nat → Heap → Prop} {ow : Nat × va_E} {lst n cap : Nat} {els : Nat → Nat} {H H1 : Heap} {locs : List Loc} {σ : Cs}
theorem GL.kept (h : GL D J N9 M e0 E ow lst n cap els H) (hE : ElOK D E) (ho : o + 110 < N9) (he : e0 < o) (hk : Kp o H H1) : GL D J N9 M e0 E ow lst n cap els H1 := by
  obtain ⟨mc, arr, f, ⟨h1, h2, h3, h4, h5⟩, h6, h7, h8, h9, h10, h11, h12, h13, h14, h15⟩ := h
  have nr : ∀ q : Nat, N9 ≤ q → ¬ rC o q := fun q h g => by
    have := g.2.1
    omega
  refine ⟨mc, arr, f, ⟨h1, h2, h3, h4, Nat.le_trans h5 hk.1⟩, h6.kept (hk.2 _ h6.lt (nr _ h1)), h7.kept (hk.2 _ h7.lt (nr _ (by show N9 ≤ lst; omega))), h8.kept (hk.2 _ h8.lt ?_), h9, h10, h11, h12, h13, h14, fun i hi => (hE _ _ _ _ (h15 i hi)).2.2 _ _ (fun q g1 g2 => ⟨g2, hk.2 q g1 (nr q g2.1)⟩)⟩
  show ¬ rC o arr
  by_cases hc : cap = 0
  · intro g
    have := g.1
    have := h9 hc
    omega
  · exact nr _ (h10 (by omega))
theorem GL.bump (h : GL D J N9 M e0 E ow lst n cap els H) : GL D J N9 H.size e0 E ow lst n cap els H := by
  obtain ⟨mc, arr, f, ⟨h1, h2, h3, h4, h5⟩, h⟩ := h
  exact ⟨mc, arr, f, ⟨h1, h2, by omega, by omega, Nat.le_refl _⟩, h⟩
theorem GL.done (h : GL D J N9 M e0 E ow lst n cap els H) (hn : 0 < n) : ListAt D J (fun q => N9 ≤ q) lst n els H := by
  obtain ⟨mc, arr, f, ⟨h1, h2, h3, h4, h5⟩, h6, h7, h8, h9, h10, h11, h12, h13, h14, h15⟩ := h
  exact ⟨by show N9 ≤ lst; omega, mc, arr, cap, f, h10 (by omega), h7, h8, h12, by omega, h14⟩
theorem GL.elsA (h : GL D J N9 M e0 E ow lst n cap els H) (hE : ElOK D E) : ∀ i, i < n → E i (fun q => N9 ≤ q) (els i) H := by
  obtain ⟨mc, arr, f, ⟨h1, h2, h3, h4, h5⟩, h6, h7, h8, h9, h10, h11, h12, h13, h14, h15⟩ := h
  exact fun i hi => (hE _ _ _ _ (h15 i hi)).2.2 _ _ (fun q g1 g2 => ⟨g2.1, rfl⟩)
theorem GL.own9 (h : GL D J N9 M e0 E ow lst n cap els H) : N9 ≤ ow.1 ∧ va_at D vwC ow H := by
  obtain ⟨mc, arr, f, ⟨h1, h2, h3, h4, h5⟩, h6, -⟩ := h
  exact ⟨h1, h6⟩
theorem GL.lstA (h : GL D J N9 M e0 E ow lst n cap els H) : N9 ≤ lst ∧ ∃ v w : Value, va_at D vwC (lst, .inr (6, [v, w, .int (nI n)])) H := by
  obtain ⟨mc, arr, f, ⟨h1, h2, h3, h4, h5⟩, h6, h7, -⟩ := h
  exact ⟨by omega, _, _, h7⟩
theorem GL.ch (h : GL D J N9 M e0 E ow lst n cap els H) (hh : ∀ i, i < n → ∀ G a H, E i G a H → E' i G a H) : GL D J N9 M e0 E' ow lst n cap els H := by
  obtain ⟨mc, arr, f, ⟨h1, h2, h3, h4, h5⟩, h6, h7, h8, h9, h10, h11, h12, h13, h14, h15⟩ := h
  exact ⟨mc, arr, f, ⟨h1, h2, h3, h4, h5⟩, h6, h7, h8, h9, h10, h11, h12, h13, h14, fun i hi => hh i hi _ _ _ (h15 i hi)⟩
end GLS
section PADD
variable {p : Program} {l : Launch} {e : Env} {R : Room} {s : State} {m : MethodId} {args : Array Value} {below : List Frame} {meth : Method} {c : Code} {H : Heap} {locs : List Loc} {cells slots : Nat} {Q : State → Prop}
variable {cc : ByteArray} {pc : Nat} {ls : Array Slot} {rest : List Value} {D8 D : va_G} {J : Nat → ClassId} {o z N9 e0 mi : Nat} {aK aV : Nat → Nat} {G Ld : Nat → Prop} {aF : Nat → Nat} {Λ : Nat → Nat → (Nat → Int32) → Int32} {Λn : Nat → Int32} {σ τ : Cs}
theorem EL.e0A (hL : EL D8 D J o z aK aV G Ld aF Λ Λn e0 mi s) : e0 < o ∧ ¬ z ≤ e0 := by
  have h1 := hL.2.1.1.2.2.1
  have h2 := hL.1.1.2.2.1
  exact ⟨by omega, h1⟩
theorem qadd {E E' : Nat → (Nat → Prop) → Nat → Heap → Prop} (hx : p.tables.exec = Jvm.exec) (hb : c.code = cc) (hts : ∀ w ∈ lw_all, w.before args s = true) {own : String} (hown : s.vm.findClass own = some m.cls) (hL : EL D8 D J o z aK aV G Ld aF Λ Λn e0 mi s) (hI : IP D J o Ld N9 s H locs σ) {nL : Nat} (hml : c.maxLocals = nL) (hlsz : ls.size = nL)
    {index n cap lst v M : Nat} {els : Nat → Nat} {ow : Nat × va_E} (hEl : ElOK D E) (hg : GL D J N9 M e0 E ow lst n cap els H) (hv : E' n (fun q => M ≤ q) v H) (hEl' : ElOK D E') (hcap : cap < 2 ^ 18) (hch : ∀ i, i < n → ∀ G a H, E i G a H → E' i G a H)
    (cwl : CallW R s args own RJ3 index yJ3_add cJ3_add 2 (some .boolean) (ws_ yJ3_add cJ3_add 2 (some .boolean)) ({ frames := 7, cells := acC n cap, slots := acS n cap, locals := 600 }) (acC n cap) (acS n cap) 1)
    (hc : cells + acC n cap ≤ R.cells ∧ slots + acS n cap ≤ R.slots) (hW : 2 * (F0 m pc ls (.ref v :: .ref lst :: rest)).monitorRoom + (rest.map fun v => v.category).sum ≤ 8) (hdg : decode cc pc = .ok (.invokevirtual index, 3))
    (kk : ∀ (H1 : Heap) (locs1 : List Loc), IP D J o Ld N9 s H1 locs1 σ → GL D J N9 H1.size e0 E' ow lst (n + 1) (ncap n cap) (eup els n v) H1 → W p l e R s m args below meth c H1 locs1 (cells + acC n cap) (slots + acS n cap) Q (F0 m (pc + 3) ls (.int 1 :: rest))) : W p l e R s m args below meth c H locs cells slots Q (F0 m pc ls (.ref v :: .ref lst :: rest)) := by
  have hle := hI.le
  have he0 := hL.e0A
  have hoz := hL.1.1.2.2.1
  have hoN := hI.2.2.2
  obtain ⟨mc, arr, f, ⟨h1, h2, h3, h4, h5⟩, h6, h7, h8, h9, h10, h11, h12, h13, h14, h15⟩ := hg
  obtain ⟨hvM, ⟨ci, k9, fs9, C9, T9, N8, hci, hk9, hvat⟩, hvmv⟩ := hEl' _ _ _ _ hv
  have hvM : M ≤ v := hvM
  have hoav : ∀ U : State, U.heap = H → s.WarmedH U.vm → OA U U.heap v := fun U hU hW => by
    have hLU := hI.envL hL hU hW
    exact OA.of hLU.1.1.1.1 (by rw [hU]; exact hvat) hci (hLU.2.2.2 k9 C9 hk9)
  have hoas : ∀ U : State, U.heap = H → s.WarmedH U.vm → OAs U U.heap n f := fun U hU hW i hi y hy => by
    have hLU := hI.envL hL hU hW
    cases (h14 i hi).symm.trans hy
    obtain ⟨-, ⟨ci, k9, fs9, C9, T9, N8, hci, hk9, hvat⟩, -⟩ := hEl _ _ _ _ (h15 i hi)
    exact OA.of hLU.1.1.1.1 (by rw [hU]; exact hvat) hci (hLU.2.2.2 k9 C9 hk9)
  have hvl : v ≠ lst := by omega
  have hne : ∀ i, i < n → ∀ y, f i = some y → y ≠ lst := fun i hi y hy => by
    cases (h14 i hi).symm.trans hy
    exact (hEl _ _ _ _ (h15 i hi)).1.2.1
  refine va_calli (va_runV (As := [.ref v]) (rest := rest) ⟨hx, hb, hml, hown, hts⟩ (mJ3_add l D J z aK aV e0 mi lst arr cap n v H.size mc f h9 (by omega) h12 (by omega) (by omega) (by omega) h11.1 (fun g => Nat.le_trans (by omega) (h10 (by omega))) hvl hne) cwl ⟨fun a U g mk q => ⟨q.1, q.2.1, q.2.2.go (State.WarmedH.refl U) (fun _ _ _ => rfl)⟩, g_recv hL.1.1.1.1 h7 rfl, fun U hU hW => ⟨rfl, ⟨by rw [hU], by rw [hU]; exact h7, by rw [hU]; exact h8, hoas U hU hW, hoav U hU hW⟩, (hI.envL hL hU hW).2.1⟩⟩ rfl rfl hlsz rfl hW hdg ⟨hc.1, hc.2⟩) hI.2.1 (fun (q : Nat) hq h => ?_) (fun (q : Nat) h => ?_) (fun r u t H1 locs1 ht hvm hp hB hz1 hk1 hS => ?_)
  · rcases h with h | h | h
    · have h8 : q = lst := h
      exact Or.inr (by show N9 ≤ q; omega)
    · have h8 : q = arr := h.1
      exact Or.inr (by have := h10 (by omega); show N9 ≤ q; omega)
    · exact Or.inr (Nat.le_trans hle h)
  · rcases h with h | h | h
    · have h8 : q = lst := h
      exact Or.inr (by show N9 ≤ q; omega)
    · have h8 : q = arr := h.1
      exact Or.inr (by have := h10 (by omega); show N9 ≤ q; omega)
    · exact Or.inr (Nat.le_trans hle h)
  · have hr : r = 1 := hp
    subst hr
    obtain ⟨b1, b2⟩ := hB
    rw [ht] at b1 b2
    have hIn : IP D J o Ld N9 s H1 locs1 σ := hI.call (hI.1.kept (fun q h hr => hk1 q h (fun g => by
      have hr2 := hr.2.1
      have hr1 := hr.1
      rcases g with g | g | g
      · omega
      · have := h10 (by omega)
        omega
      · omega))) hS
    have hl1 : lst < H.size := h7.lt
    have ha1 : arr < H.size := h8.lt
    refine kk H1 locs1 hIn ⟨mc + 1, (if n = cap then H.size else arr), _, ⟨h1, h2, b1.lt, b2.lt, Nat.le_refl _⟩, h6.kept (hk1 _ h6.lt (fun g => ?_)), b1, b2, ?_, ?_, ?_, ?_, ?_, ?_, ?_⟩
    · rcases g with g | g | g
      · omega
      · exact h11.2 g.1.symm
      · have := h6.lt
        omega
    · intro g
      unfold ncap at g
      by_cases c0 : n = cap
      · rw [if_pos c0] at g
        have := gcap_gt cap
        omega
      · rw [if_neg c0] at g ⊢
        exact h9 g
    · intro g
      by_cases c0 : n = cap
      · rw [if_pos c0]
        exact hle
      · rw [if_neg c0]
        exact h10 (by omega)
    · by_cases c0 : n = cap
      · rw [if_pos c0]
        have := h6.lt
        exact ⟨by omega, by omega⟩
      · rw [if_neg c0]
        exact h11
    · unfold ncap
      by_cases c0 : n = cap
      · rw [if_pos c0]
        have := gcap_gt cap
        omega
      · rw [if_neg c0]
        omega
    · unfold ncap
      by_cases c0 : n = cap
      · rw [if_pos c0]
        exact gcap_lt cap (by omega)
      · rw [if_neg c0]
        exact h13
    · intro i hi
      show va_up _ n (some v) i = some (eup els n v i)
      unfold eup va_up
      by_cases e9 : i = n
      · rw [if_pos e9, if_pos e9]
      · rw [if_neg e9, if_neg e9]
        by_cases c0 : n = cap
        · rw [if_pos c0]
          show va_cpy f (fun _ => none) 0 0 cap i = some (els i)
          unfold va_cpy
          rw [if_pos (by omega)]
          rw [show 0 + (i - 0) = i by omega]
          exact h14 i (by omega)
        · rw [if_neg c0]
          exact h14 i (by omega)
    · intro i hi
      unfold eup
      by_cases e9 : i = n
      · rw [if_pos e9, e9]
        refine hvmv _ _ (fun q g1 g2 => ⟨⟨by have g2 : M ≤ q := g2; omega, by have g2 : M ≤ q := g2; omega, ?_⟩, hk1 q g1 (fun g => ?_)⟩)
        · have g2 : M ≤ q := g2
          by_cases c0 : n = cap
          · rw [if_pos c0]; omega
          · rw [if_neg c0]; omega
        · have g2 : M ≤ q := g2
          rcases g with g | g | g <;> omega
      · rw [if_neg e9]
        have hin : i < n := by omega
        refine (hEl' _ _ _ _ (hch i hin _ _ _ (h15 i hin))).2.2 _ _ (fun q g1 g2 => ⟨⟨g2.1, g2.2.1, ?_⟩, hk1 q g1 (fun g => ?_)⟩)
        · by_cases c0 : n = cap
          · rw [if_pos c0]; omega
          · rw [if_neg c0]; exact g2.2.2
        · rcases g with g | g | g
          · exact g2.2.1 g
          · exact g2.2.2 g.1
          · omega
/-- a new object -/
theorem qnew (hx : p.tables.exec = Jvm.exec) (hb : c.code = cc) (hts : ∀ w ∈ lw_all, w.before args s = true) {own C : String} {T : u_T} {N ci index : Nat} (hin : ∀ w ∈ u_ws C T N, w ∈ lw_all) (ty0 : Nat → FieldType) (hty : ∀ k, k < N → parseFieldDescriptor (T k).2.2.1 = some (ty0 k)) (hown : s.vm.findClass own = some m.cls) (hcl : Cond.classLink own index C ∈ lw_all) (hinst : Cond.instantiable C N ∈ lw_all) (hini : Cond.initialized C ∈ lw_all) (hL : EL D8 D J o z aK aV G Ld aF Λ Λn e0 mi s) (hI : IP D J o Ld N9 s H locs σ) (hc : vwC[ci]? = some (C, T, N)) {fs : List Value} (hfs : ∀ j, j < N → defaultValue (ty0 j) = vp_V fs j) (hcells : cells + 1 ≤ R.cells) (hslots : slots + N ≤ R.slots) (hdg : decode cc pc = .ok (.new index, 3))
    (kk : ∀ H1 : Heap, IP D J o Ld N9 s H1 locs σ → va_at D vwC (H.size, .inr (ci, fs)) H1 → H1.size = H.size + 1 → Kp o H H1 → W p l e R s m args below meth c H1 locs (cells + 1) (slots + N) Q (F0 m (pc + 3) ls (.ref H.size :: rest))) : W p l e R s m args below meth c H locs cells slots Q (F0 m pc ls rest) :=
  gnew hx hb hts hin ty0 hty hown hcl hinst hini hL.1.1.1.1 hc hfs rfl hcells hslots hdg (fun H1 h1 h2 h3 => kk H1 (hI.grow (by omega) h3) h1 h2 ⟨by omega, fun q h _ => h3 q h⟩)
/-- its constructor: fields alone -/
theorem qinit (hx : p.tables.exec = Jvm.exec) (hb : c.code = cc) (hts : ∀ w ∈ lw_all, w.before args s = true) {own : String} (hown : s.vm.findClass own = some m.cls) (hL : EL D8 D J o z aK aV G Ld aF Λ Λn e0 mi s) (hI : IP D J o Ld N9 s H locs σ) {nL : Nat} (hml : c.maxLocals = nL) (hlsz : ls.size = nL)
    {y : MethodName} {cd : ByteArray} {nL' fr lo n index a ci : Nat} {fs0 fs1 : List Value} {As : List Value} (hM : ∀ z, z ≤ a → Met l y (ws_ y cd nL' none) ({ frames := fr, cells := 0, slots := 0, locals := lo }) (va_Pc (.ref a :: As) (fun U => va_at D vwC (a, .inr (ci, fs0)) U.heap ∧ EC D J z aK aV U)) (va_Qv (fun (_ : Unit) => True) (fun _ t => va_at D vwC (a, .inr (ci, fs1)) t.heap) (fun x => x = a)) 0 0 (fun x => x = a))
    (cwl : CallB R s args own index y cd nL' none (ws_ y cd nL' none) ({ frames := fr, cells := 0, slots := 0, locals := lo }) 0 0 n ∧ y.name = "<init>" ∧ (Cond.instanceMethod y).before args s = true) (ha : N9 ≤ a) (hat : va_at D vwC (a, .inr (ci, fs0)) H)
    (hc : cells ≤ R.cells ∧ slots ≤ R.slots) (hn : As.length = n) {st : List Value} (hst0 : st = As.reverse ++ .ref a :: rest) (hW : 2 * (F0 m pc ls st).monitorRoom + (rest.map fun v => v.category).sum ≤ 8) (hdg : decode cc pc = .ok (.invokespecial index, 3))
    (kk : ∀ (H1 : Heap) (locs1 : List Loc), IP D J o Ld N9 s H1 locs1 σ → va_at D vwC (a, .inr (ci, fs1)) H1 → H.size ≤ H1.size → (∀ q : Nat, q < H.size → q ≠ a → H1[q]? = H[q]?) → W p l e R s m args below meth c H1 locs1 cells slots Q (F0 m (pc + 3) ls rest)) : W p l e R s m args below meth c H locs cells slots Q (F0 m pc ls st) := by
  have hoz := hL.1.1.2.2.1
  have hoN := hI.2.2.2
  refine va_callv (va_runI (As := As) (rest := rest) ⟨hx, hb, hml, hown, hts⟩ (hM z (by omega)) cwl ⟨fun _ U g mk q => ⟨q.1, q.2.1, q.2.2.go (State.WarmedH.refl U) (fun _ _ _ => rfl)⟩, fun U hU hW => ⟨rfl, by rw [hU]; exact hat, (hI.envL hL hU hW).1.1.1⟩⟩ rfl hn hlsz hst0 hW hdg ⟨hc.1, hc.2⟩) hI.2.1 (fun (q : Nat) _ h => Or.inr (by have h8 : q = a := h; omega)) (fun (q : Nat) h => Or.inr (by have h8 : q = a := h; omega)) (fun u t H1 locs1 ht hvm hp hB hz1 hk1 hS => ?_)
  rw [ht] at hB
  exact kk H1 locs1 (hI.call (hI.1.kept (fun q h hr => hk1 q h (fun e => by have h8 : q = a := e; have := hr.2.1; omega))) hS) hB hz1 hk1
/-- its constructor: with a new list, just behind it -/
theorem qinitL (hx : p.tables.exec = Jvm.exec) (hb : c.code = cc) (hts : ∀ w ∈ lw_all, w.before args s = true) {own : String} (hown : s.vm.findClass own = some m.cls) (hL : EL D8 D J o z aK aV G Ld aF Λ Λn e0 mi s) (hI : IP D J o Ld N9 s H locs σ) {nL : Nat} (hml : c.maxLocals = nL) (hlsz : ls.size = nL)
    {y : MethodName} {cd : ByteArray} {nL' fr lo n index a ci : Nat} {fs0 fs1 : List Value} {As : List Value} {E : Nat → (Nat → Prop) → Nat → Heap → Prop} (hM : ∀ (z : Nat), z ≤ a → Met l y (ws_ y cd nL' none) ({ frames := fr, cells := 1, slots := 3, locals := lo }) (va_Pc (.ref a :: As) (fun U => (U.heap.size = H.size ∧ va_at D vwC (a, .inr (ci, fs0)) U.heap) ∧ EM aK aV e0 D J z U)) (va_Qv (fun (_ : Unit) => True) (fun _ t => t.heap.size = H.size + 1 ∧ va_at D vwC (a, .inr (ci, fs1)) t.heap ∧ va_at D vwC (H.size, .inr (6, [.int (0 : Int32), .ref e0, .int 0])) t.heap) (fun x => x = a ∨ H.size ≤ x)) 1 3 (fun x => x = a ∨ H.size ≤ x))
    (cwl : CallB R s args own index y cd nL' none (ws_ y cd nL' none) ({ frames := fr, cells := 1, slots := 3, locals := lo }) 1 3 n ∧ y.name = "<init>" ∧ (Cond.instanceMethod y).before args s = true) (ha : N9 ≤ a) (haH : a < H.size) (hat : va_at D vwC (a, .inr (ci, fs0)) H)
    (hc : cells + 1 ≤ R.cells ∧ slots + 3 ≤ R.slots) (hn : As.length = n) {st : List Value} (hst0 : st = As.reverse ++ .ref a :: rest) (hW : 2 * (F0 m pc ls st).monitorRoom + (rest.map fun v => v.category).sum ≤ 8) (hdg : decode cc pc = .ok (.invokespecial index, 3))
    (kk : ∀ (H1 : Heap) (locs1 : List Loc) (els : Nat → Nat), IP D J o Ld N9 s H1 locs1 σ → GL D J N9 H1.size e0 E (a, .inr (ci, fs1)) H.size 0 0 els H1 → W p l e R s m args below meth c H1 locs1 (cells + 1) (slots + 3) Q (F0 m (pc + 3) ls rest)) : W p l e R s m args below meth c H locs cells slots Q (F0 m pc ls st) := by
  have hoz := hL.1.1.2.2.1
  have hoN := hI.2.2.2
  have hle := hI.le
  have he0 := hL.e0A
  refine va_callv (va_runI (As := As) (rest := rest) ⟨hx, hb, hml, hown, hts⟩ (hM z (by omega)) cwl ⟨fun _ U g mk q => ⟨q.1, q.2.1, q.2.2.go (State.WarmedH.refl U) (fun _ _ _ => rfl)⟩, fun U hU hW => ⟨rfl, by rw [hU]; exact ⟨rfl, hat⟩, (hI.envL hL hU hW).2.1.1⟩⟩ rfl hn hlsz hst0 hW hdg ⟨hc.1, hc.2⟩) hI.2.1 (fun (q : Nat) _ h => Or.inr (by have h8 : q = a ∨ H.size ≤ q := h; omega)) (fun (q : Nat) h => Or.inr (by have h8 : q = a ∨ H.size ≤ q := h; omega)) (fun u t H1 locs1 ht hvm hp hB hz1 hk1 hS => ?_)
  obtain ⟨b0, b1, b2⟩ := hB
  rw [ht] at b0 b1 b2
  have hIn : IP D J o Ld N9 s H1 locs1 σ := hI.call (hI.1.kept (fun q h hr => hk1 q h (fun e => by have h8 : q = a ∨ H.size ≤ q := e; have := hr.2.1; omega))) hS
  have he9 : va_at D vwC (e0, qc (J 4) 0 (fun _ => none)) s.heap := hL.2.1.1.2.2.2
  have hel := he9.lt
  exact kk H1 locs1 (fun _ => 0) hIn ⟨0, e0, fun _ => none, ⟨ha, haH, by omega, by have h8 : e0 < s.heap.size := hel; have := hI.2.2.1; omega, Nat.le_refl _⟩, b1, b2, he9.kept (hIn.old e0 hel (fun g => by have := g.1; omega)), fun _ => rfl, fun h => by omega, ⟨by have h8 : e0 < s.heap.size := hel; have := hI.2.2.1; omega, by show e0 ≠ a; omega⟩, Nat.le_refl _, by decide, fun i hi => by omega, fun i hi => by omega⟩
end PADD

set_option maxRecDepth 100000
section QROWS
variable {p : Program} {l : Launch} {e : Env} {R : Room} {s : State} {m : MethodId} {args : Array Value} {below : List Frame} {meth : Method} {c : Code} {H : Heap} {locs : List Loc} {cells slots : Nat} {Q : State → Prop}
variable {cc : ByteArray} {pc : Nat} {ls : Array Slot} {rest : List Value} {D8 D : va_G} {J : Nat → ClassId} {o z N9 e0 mi : Nat} {aK aV : Nat → Nat} {G Ld : Nat → Prop} {aF : Nat → Nat} {Λ : Nat → Nat → (Nat → Int32) → Int32} {Λn : Nat → Int32} {σ σ' τ : Cs}

theorem qccallI (hx : p.tables.exec = Jvm.exec) (hb : c.code = cc) (hts : ∀ w ∈ lw_all, w.before args s = true) {own : String} (hown : s.vm.findClass own = some m.cls) (hE : ECC D J o z aK aV G Ld aF Λ Λn s) (hI : IP D J o Ld N9 s H locs σ) {nL : Nat} (hml : c.maxLocals = nL) (hlsz : ls.size = nL)
    {y : MethodName} {cd : ByteArray} {nL' fr lo n index b ci N : Nat} {fs : List Value} {C : String} {T : u_T} {ret : Option FieldType} {As : Nat → (Nat → Nat) → (Nat → Nat) → List Value} {As' : List Value} {r : Int32} (hM : CMi y cd nL' ret fr lo Λ Λn As r σ σ') (cwl : CallW R s args own C index y cd nL' ret (ws_ y cd nL' ret) ({ frames := fr, cells := 0, slots := 0, locals := lo }) 0 0 n) (hat : va_at D vwC (b, .inr (ci, fs)) H) (hcl : vwC[ci]? = some (C, T, N)) (hAs : As o aK aF = .ref b :: As')
    (hc : cells ≤ R.cells ∧ slots ≤ R.slots) (hn : As'.length = n) {st : List Value} (hst : st = As'.reverse ++ .ref b :: rest) (hW : 2 * (F0 m pc ls st).monitorRoom + (rest.map fun v => v.category).sum ≤ 8) (hdg : decode cc pc = .ok (.invokevirtual index, 3))
    (kk : ∀ (H1 : Heap) (locs1 : List Loc), IP D J o Ld N9 s H1 locs1 σ' → Kp o H H1 → W p l e R s m args below meth c H1 locs1 cells slots Q (F0 m (pc + 3) ls (.int r :: rest))) : W p l e R s m args below meth c H locs cells slots Q (F0 m pc ls st) := by
  have hM := hM l D J o z aK aV G Ld aF
  rw [hAs] at hM
  refine va_calli (va_runV (As := As') (rest := rest) ⟨hx, hb, hml, hown, hts⟩ hM cwl ⟨fun a U g mk q => ?_, g_recv hE.1.1 hat hcl, fun U hU hW => ⟨rfl, by rw [hU]; exact hI.1, hI.env hE hU hW⟩⟩ rfl hn hlsz hst hW hdg ⟨hc.1, hc.2⟩) hI.2.1 (fun q _ h => Or.inl h) (fun q h => Or.inl h) (fun r' u t H1 locs1 ht hvm hp hB hz1 hk1 hS => ?_)
  · obtain ⟨q0, qP, qE⟩ := q
    exact ⟨q0, qP, qE.go (State.WarmedH.refl U) (fun _ _ _ => rfl)⟩
  · have hr' : r' = r := hp
    subst hr'
    exact kk H1 locs1 (hI.call (by rw [← ht]; exact hB) hS) ⟨hz1, fun q h1 h2 => hk1 q h1 h2⟩

theorem qccallV (hx : p.tables.exec = Jvm.exec) (hb : c.code = cc) (hts : ∀ w ∈ lw_all, w.before args s = true) {own : String} (hown : s.vm.findClass own = some m.cls) (hE : ECC D J o z aK aV G Ld aF Λ Λn s) (hI : IP D J o Ld N9 s H locs σ) {nL : Nat} (hml : c.maxLocals = nL) (hlsz : ls.size = nL)
    {y : MethodName} {cd : ByteArray} {nL' fr lo n index b ci N : Nat} {fs : List Value} {C : String} {T : u_T} {ret : Option FieldType} {As : Nat → (Nat → Nat) → (Nat → Nat) → List Value} {As' : List Value} (hM : CMv y cd nL' ret fr lo Λ Λn As σ σ') (cwl : CallW R s args own C index y cd nL' ret (ws_ y cd nL' ret) ({ frames := fr, cells := 0, slots := 0, locals := lo }) 0 0 n) (hat : va_at D vwC (b, .inr (ci, fs)) H) (hcl : vwC[ci]? = some (C, T, N)) (hAs : As o aK aF = .ref b :: As')
    (hc : cells ≤ R.cells ∧ slots ≤ R.slots) (hn : As'.length = n) {st : List Value} (hst : st = As'.reverse ++ .ref b :: rest) (hW : 2 * (F0 m pc ls st).monitorRoom + (rest.map fun v => v.category).sum ≤ 8) (hdg : decode cc pc = .ok (.invokevirtual index, 3))
    (kk : ∀ (H1 : Heap) (locs1 : List Loc), IP D J o Ld N9 s H1 locs1 σ' → Kp o H H1 → W p l e R s m args below meth c H1 locs1 cells slots Q (F0 m (pc + 3) ls (rest))) : W p l e R s m args below meth c H locs cells slots Q (F0 m pc ls st) := by
  have hM := hM l D J o z aK aV G Ld aF
  rw [hAs] at hM
  refine va_callv (va_runV (As := As') (rest := rest) ⟨hx, hb, hml, hown, hts⟩ hM cwl ⟨fun a U g mk q => ?_, g_recv hE.1.1 hat hcl, fun U hU hW => ⟨rfl, by rw [hU]; exact hI.1, hI.env hE hU hW⟩⟩ rfl hn hlsz hst hW hdg ⟨hc.1, hc.2⟩) hI.2.1 (fun q _ h => Or.inl h) (fun q h => Or.inl h) (fun u t H1 locs1 ht hvm hp hB hz1 hk1 hS => ?_)
  · obtain ⟨q0, qP, qE⟩ := q
    exact ⟨q0, qP, qE.go (State.WarmedH.refl U) (fun _ _ _ => rfl)⟩
  · exact kk H1 locs1 (hI.call (by rw [← ht]; exact hB) hS) ⟨hz1, fun q h1 h2 => hk1 q h1 h2⟩

theorem qpcallI (hx : p.tables.exec = Jvm.exec) (hb : c.code = cc) (hts : ∀ w ∈ lw_all, w.before args s = true) (hst : l.stackTraces = false) {own : String} (hown : s.vm.findClass own = some m.cls) (hE : EP D8 D J o z aK aV G Ld aF Λ Λn s) (hI : IP D J o Ld N9 s H locs σ) {nL : Nat} (hml : c.maxLocals = nL) (hlsz : ls.size = nL)
    {y : MethodName} {cd : ByteArray} {nL' fr lo n index b ci N : Nat} {fs : List Value} {C : String} {T : u_T} {ret : Option FieldType} {As : Nat → (Nat → Nat) → (Nat → Nat) → List Value} {As' : List Value} {out : Po} {K : Kc} (hM : PXi y cd nL' ret fr lo Λ Λn As out K σ) (cwl : CallW R s args own C index y cd nL' ret (ws_ y cd nL' ret) ({ frames := fr, cells := K.1, slots := K.2, locals := lo }) K.1 K.2 n) (hat : va_at D vwC (b, .inr (ci, fs)) H) (hcl : vwC[ci]? = some (C, T, N)) (hAs : As o aK aF = .ref b :: As')
    (hc : cells + K.1 ≤ R.cells ∧ slots + K.2 ≤ R.slots) (hn : As'.length = n) {st : List Value} (hst0 : st = As'.reverse ++ .ref b :: rest) (hW : 2 * (F0 m pc ls st).monitorRoom + (rest.map fun v => v.category).sum ≤ 8) (hdg : decode cc pc = .ok (.invokevirtual index, 3))
    (kx : ∀ (E : String) (ce : Cell) (q9 : Addr) (σ' : Cs) (H1 : Heap) (locs1 : List Loc), out = .inr σ' → E = RX8 → IP D J o Ld N9 s H1 locs1 σ' → H1[q9]? = some ce → ce.vm = .none → s.vm.findClass E = some ce.cls → vx_W p l e R s m args below meth c H1 locs1 (cells + K.1) (slots + K.2) Q (F0 m pc ls rest) q9)
    (kk : ∀ (v : Int32 × Cs) (H1 : Heap) (locs1 : List Loc), out = .inl v → IP D J o Ld N9 s H1 locs1 v.2 → Kp o H H1 → W p l e R s m args below meth c H1 locs1 (cells + K.1) (slots + K.2) Q (F0 m (pc + 3) ls (.int v.1 :: rest))) : W p l e R s m args below meth c H locs cells slots Q (F0 m pc ls st) := by
  have hM := hM l D8 D J o z aK aV G Ld aF H.size hst
  rw [hAs] at hM
  refine vx_calli (vx_runV (As := As') (rest := rest) ⟨hx, hb, hml, hown, hts⟩ hM cwl ⟨fun a U g mk q => ?_, g_recv hE.1.1.1 hat hcl, fun U hU hW => ⟨rfl, ⟨by rw [hU], Nat.lt_of_lt_of_le hI.2.2.2 hI.le, by rw [hU]; exact hI.1⟩, hI.envP hE hU hW⟩⟩ rfl hn hlsz hst0 hW hdg ⟨hc.1, hc.2⟩) hI.2.1 (fun q _ h => AP.mono hI.le q h) (fun q h => AP.mono hI.le q h) (fun q _ h => AP.mono hI.le q h) (fun E ce q9 u t H1 locs1 ht hvm hp hB hz1 hk1 hS h1 h2 h3 => ?_) (fun r u t H1 locs1 ht hvm hp hB hz1 hk1 hS => ?_)
  · exact ⟨q.1, q.2.1, q.2.2.go (State.WarmedH.refl U) (fun _ _ _ => rfl)⟩
  · exact kx E ce q9 u H1 locs1 hp hB.1 (hI.call (by rw [← ht]; exact hB.2) hS) h1 h2 h3
  · exact kk (r, u) H1 locs1 hp (hI.call (by rw [← ht]; exact hB) hS) ⟨hz1, fun q h1 h2 => hk1 q h1 (fun g => by
      rcases g with g | g
      · exact h2 g
      · omega)⟩

theorem qpcallV (hx : p.tables.exec = Jvm.exec) (hb : c.code = cc) (hts : ∀ w ∈ lw_all, w.before args s = true) (hst : l.stackTraces = false) {own : String} (hown : s.vm.findClass own = some m.cls) (hE : EP D8 D J o z aK aV G Ld aF Λ Λn s) (hI : IP D J o Ld N9 s H locs σ) {nL : Nat} (hml : c.maxLocals = nL) (hlsz : ls.size = nL)
    {y : MethodName} {cd : ByteArray} {nL' fr lo n index b ci N : Nat} {fs : List Value} {C : String} {T : u_T} {ret : Option FieldType} {As : Nat → (Nat → Nat) → (Nat → Nat) → List Value} {As' : List Value} {out : Po} {K : Kc} (hM : PXv y cd nL' ret fr lo Λ Λn As out K σ) (cwl : CallW R s args own C index y cd nL' ret (ws_ y cd nL' ret) ({ frames := fr, cells := K.1, slots := K.2, locals := lo }) K.1 K.2 n) (hat : va_at D vwC (b, .inr (ci, fs)) H) (hcl : vwC[ci]? = some (C, T, N)) (hAs : As o aK aF = .ref b :: As')
    (hc : cells + K.1 ≤ R.cells ∧ slots + K.2 ≤ R.slots) (hn : As'.length = n) {st : List Value} (hst0 : st = As'.reverse ++ .ref b :: rest) (hW : 2 * (F0 m pc ls st).monitorRoom + (rest.map fun v => v.category).sum ≤ 8) (hdg : decode cc pc = .ok (.invokevirtual index, 3))
    (kx : ∀ (E : String) (ce : Cell) (q9 : Addr) (σ' : Cs) (H1 : Heap) (locs1 : List Loc), out = .inr σ' → E = RX8 → IP D J o Ld N9 s H1 locs1 σ' → H1[q9]? = some ce → ce.vm = .none → s.vm.findClass E = some ce.cls → vx_W p l e R s m args below meth c H1 locs1 (cells + K.1) (slots + K.2) Q (F0 m pc ls rest) q9)
    (kk : ∀ (v : Int32 × Cs) (H1 : Heap) (locs1 : List Loc), out = .inl v → IP D J o Ld N9 s H1 locs1 v.2 → Kp o H H1 → W p l e R s m args below meth c H1 locs1 (cells + K.1) (slots + K.2) Q (F0 m (pc + 3) ls (rest))) : W p l e R s m args below meth c H locs cells slots Q (F0 m pc ls st) := by
  have hM := hM l D8 D J o z aK aV G Ld aF H.size hst
  rw [hAs] at hM
  refine vx_callv (vx_runV (As := As') (rest := rest) ⟨hx, hb, hml, hown, hts⟩ hM cwl ⟨fun a U g mk q => ?_, g_recv hE.1.1.1 hat hcl, fun U hU hW => ⟨rfl, ⟨by rw [hU], Nat.lt_of_lt_of_le hI.2.2.2 hI.le, by rw [hU]; exact hI.1⟩, hI.envP hE hU hW⟩⟩ rfl hn hlsz hst0 hW hdg ⟨hc.1, hc.2⟩) hI.2.1 (fun q _ h => AP.mono hI.le q h) (fun q h => AP.mono hI.le q h) (fun q _ h => AP.mono hI.le q h) (fun E ce q9 u t H1 locs1 ht hvm hp hB hz1 hk1 hS h1 h2 h3 => ?_) (fun u t H1 locs1 ht hvm hp hB hz1 hk1 hS => ?_)
  · exact ⟨q.1, q.2.1, q.2.2.go (State.WarmedH.refl U) (fun _ _ _ => rfl)⟩
  · exact kx E ce q9 u H1 locs1 hp hB.1 (hI.call (by rw [← ht]; exact hB.2) hS) h1 h2 h3
  · exact kk (0, u) H1 locs1 hp (hI.call (by rw [← ht]; exact hB) hS) ⟨hz1, fun q h1 h2 => hk1 q h1 (fun g => by
      rcases g with g | g
      · exact h2 g
      · omega)⟩

theorem qpword (hx : p.tables.exec = Jvm.exec) (hb : c.code = cc) (hts : ∀ w ∈ lw_all, w.before args s = true) {own : String} (hown : s.vm.findClass own = some m.cls) (hE : EP D8 D J o z aK aV G Ld aF Λ Λn s) (hI : IP D J o Ld N9 s H locs σ) {nL : Nat} (hml : c.maxLocals = nL) (hlsz : ls.size = nL) {index : Nat}
    (hf : X3_word σ = some τ) (cwl : CallW R s args own RX3 index yX3_word cX3_word 3 (some (.object "java/lang/String")) (ws_ yX3_word cX3_word 3 (some (.object "java/lang/String"))) ({ frames := 14, cells := wC τ, slots := wS τ, locals := 1500 }) (wC τ) (wS τ) 0)
    (hc : cells + wC τ ≤ R.cells ∧ slots + wS τ ≤ R.slots) (hW : 2 * (F0 m pc ls (.ref (o + 61) :: rest)).monitorRoom + (rest.map fun v => v.category).sum ≤ 8) (hdg : decode cc pc = .ok (.invokevirtual index, 3))
    (kk : ∀ (x va : Nat) (H1 : Heap) (locs1 : List Loc), IP D J o Ld N9 s H1 locs1 τ → Kp o H H1 → StrF D J N9 x va 0 0 τ H1 → W p l e R s m args below meth c H1 locs1 (cells + wC τ) (slots + wS τ) Q (F0 m (pc + 3) ls (.ref x :: rest))) : W p l e R s m args below meth c H locs cells slots Q (F0 m pc ls (.ref (o + 61) :: rest)) := by
  have hle := hI.le
  have hlen : wlen τ ≤ 400 := by
    unfold X3_word at hf
    obtain ⟨t0, e0, hf⟩ := obd hf
    by_cases h : wOk t0 = true
    · rw [if_pos h] at hf
      cases hf
      have := (wOk_e h).2.2.1
      omega
    · rw [if_neg h] at hf
      cases hf
  refine va_callr (va_runV (As := []) (rest := rest) ⟨hx, hb, hml, hown, hts⟩ (mX3_word Λ Λn σ τ hf l D J o z aK aV G Ld aF H.size) cwl ⟨fun a U g mk q => ⟨q.1, q.2.1, q.2.2.1.go (State.WarmedH.refl U) (fun _ _ _ => rfl), q.2.2.2.go (State.WarmedH.refl U)⟩, g_recv hE.1.1.1 (hI.1.o 1 rfl) rfl, fun U hU hW => ⟨rfl, ⟨by rw [hU], Nat.lt_of_lt_of_le hI.2.2.2 hle, by rw [hU]; exact hI.1⟩, (hI.envP hE hU hW).1, (hI.envP hE hU hW).2.1⟩⟩ rfl rfl hlsz rfl hW hdg ⟨hc.1, hc.2⟩) hI.2.1 (fun q _ h => AP.mono hle q h) (fun q h => AP.mono hle q h) (fun u a t H1 locs1 ht hvm hp hB hz1 hk1 hS => ?_)
  obtain ⟨h1, hP, va, h2, h3, h4⟩ := hB
  rw [ht] at hP h3 h4
  exact kk a va H1 locs1 (hI.call hP hS) ⟨hz1, fun q h1 h2 => hk1 q h1 (fun g => by
      rcases g with g | g
      · exact h2 g
      · omega)⟩ ⟨Nat.le_trans hle h1, h2, h3, h4, hlen⟩
theorem qkind (hx : p.tables.exec = Jvm.exec) (hb : c.code = cc) (hts : ∀ w ∈ lw_all, w.before args s = true) (hown : s.vm.findClass RX1 = some m.cls) (hL : EL D8 D J o z aK aV G Ld aF Λ Λn e0 mi s) (hI : IP D J o Ld N9 s H locs σ) {nL : Nat} (hml : c.maxLocals = nL) (hlsz : ls.size = nL) {x va : Nat} {h0 z0 : Int32} (hs : StrF D J N9 x va h0 z0 τ H)
    (hR : 5 ≤ R.frames ∧ 400 ≤ R.locals) (hc : cells + 1 ≤ R.cells ∧ slots + 3 ≤ R.slots) (hW : 2 * (F0 m pc ls (.ref x :: rest)).monitorRoom + (rest.map fun v => v.category).sum ≤ 8) (hdg : decode cc pc = .ok (.invokestatic 333, 3))
    (kk : ∀ (H1 : Heap) (locs1 : List Loc), IP D J o Ld N9 s H1 locs1 σ → Kp o H H1 → W p l e R s m args below meth c H1 locs1 (cells + 1) (slots + 3) Q (F0 m (pc + 3) ls (va_rf ((efnd jsK τ 3 0).map (fun i => aF (7 + i))) :: rest))) : W p l e R s m args below meth c H locs cells slots Q (F0 m pc ls (.ref x :: rest)) := by
  have hz := hL.1.1.2.2.1
  have hN := hI.2.2.2
  have hle := hI.le
  obtain ⟨D9, cK, kv, hA⟩ := hL.2.2.1.1
  have hT := hL.2.2.1.2.2.1
  have hzq : ∀ q : Nat, q < s.heap.size → ¬ z ≤ q → H[q]? = s.heap[q]? := fun q h1 h2 => hI.old q h1 (fun h3 => h2 (Nat.le_trans hz h3.1))
  refine va_callq (va_runS (As := [.ref x]) (rest := rest) ⟨hx, hb, hml, hown, hts⟩ (mX10_of l D9 D J cK kv z H.size N9 x va h0 z0 aK aV aF jsK τ (by omega) (by omega)) (va_cwS 1 hts (lw_S q1421 q1422 q163 q1423) rfl rfl rfl (by decide +kernel) ⟨hR.1, Nat.le_trans (Nat.le_of_ble_eq_true rfl) hR.2⟩) ⟨fun a U g mk q => ⟨q.1, q.2.1, q.2.2.1.go (State.WarmedH.refl U) (fun _ _ _ => rfl), q.2.2.2.1.go (State.WarmedH.refl U) (fun _ _ _ => rfl), q.2.2.2.2.go (State.WarmedH.refl U) (fun _ _ _ => rfl)⟩, fun U hU hW => ⟨rfl, by rw [hU]; exact ⟨rfl, hs⟩, (hI.envL hL hU hW).1.1.1, hA.go hW (fun q h1 h2 => by rw [hU]; exact hzq q h1 h2), hT.go hW (fun q h1 h2 => by rw [hU]; exact hzq q h1 h2)⟩⟩ rfl rfl hlsz rfl hW hdg ⟨hc.1, hc.2⟩) hI.2.1 (fun q _ h => Or.inr (Nat.le_trans hle h)) (fun q h => Or.inr (Nat.le_trans hle h)) (fun r u t H1 locs1 ht hvm hp hB hz1 hk1 hS => ?_)
  have hr : r = _ := hp
  rw [hr]
  exact kk H1 locs1 (hI.call (hI.1.kept (fun q h _ => hk1 q h (by show ¬ H.size ≤ q; omega))) hS) ⟨hz1, fun q h1 h2 => hk1 q h1 (by show ¬ H.size ≤ q; omega)⟩

theorem qfact (hx : p.tables.exec = Jvm.exec) (hb : c.code = cc) (hts : ∀ w ∈ lw_all, w.before args s = true) (hown : s.vm.findClass RX1 = some m.cls) (hL : EL D8 D J o z aK aV G Ld aF Λ Λn e0 mi s) (hI : IP D J o Ld N9 s H locs σ) {nL : Nat} (hml : c.maxLocals = nL) (hlsz : ls.size = nL) {x va : Nat} {h0 z0 : Int32} (hs : StrF D J N9 x va h0 z0 τ H)
    (hR : 5 ≤ R.frames ∧ 400 ≤ R.locals) (hc : cells + 1 ≤ R.cells ∧ slots + 7 ≤ R.slots) (hW : 2 * (F0 m pc ls (.ref x :: rest)).monitorRoom + (rest.map fun v => v.category).sum ≤ 8) (hdg : decode cc pc = .ok (.invokestatic 266, 3))
    (kk : ∀ (H1 : Heap) (locs1 : List Loc), IP D J o Ld N9 s H1 locs1 σ → Kp o H H1 → W p l e R s m args below meth c H1 locs1 (cells + 1) (slots + 7) Q (F0 m (pc + 3) ls (va_rf ((efnd jsF τ 7 0).map (fun i => aF (0 + i))) :: rest))) : W p l e R s m args below meth c H locs cells slots Q (F0 m pc ls (.ref x :: rest)) := by
  have hz := hL.1.1.2.2.1
  have hN := hI.2.2.2
  have hle := hI.le
  obtain ⟨D9, cK, kv, hA⟩ := hL.2.2.1.2.1
  have hT := hL.2.2.1.2.2.2
  have hzq : ∀ q : Nat, q < s.heap.size → ¬ z ≤ q → H[q]? = s.heap[q]? := fun q h1 h2 => hI.old q h1 (fun h3 => h2 (Nat.le_trans hz h3.1))
  refine va_callq (va_runS (As := [.ref x]) (rest := rest) ⟨hx, hb, hml, hown, hts⟩ (mX17_of l D9 D J cK kv z H.size N9 x va h0 z0 aK aV aF jsF τ (by omega) (by omega)) (va_cwS 1 hts (lw_S q1536 q1537 q170 q1538) rfl rfl rfl (by decide +kernel) ⟨hR.1, Nat.le_trans (Nat.le_of_ble_eq_true rfl) hR.2⟩) ⟨fun a U g mk q => ⟨q.1, q.2.1, q.2.2.1.go (State.WarmedH.refl U) (fun _ _ _ => rfl), q.2.2.2.1.go (State.WarmedH.refl U) (fun _ _ _ => rfl), q.2.2.2.2.go (State.WarmedH.refl U) (fun _ _ _ => rfl)⟩, fun U hU hW => ⟨rfl, by rw [hU]; exact ⟨rfl, hs⟩, (hI.envL hL hU hW).1.1.1, hA.go hW (fun q h1 h2 => by rw [hU]; exact hzq q h1 h2), hT.go hW (fun q h1 h2 => by rw [hU]; exact hzq q h1 h2)⟩⟩ rfl rfl hlsz rfl hW hdg ⟨hc.1, hc.2⟩) hI.2.1 (fun q _ h => Or.inr (Nat.le_trans hle h)) (fun q h => Or.inr (Nat.le_trans hle h)) (fun r u t H1 locs1 ht hvm hp hB hz1 hk1 hS => ?_)
  have hr : r = _ := hp
  rw [hr]
  exact kk H1 locs1 (hI.call (hI.1.kept (fun q h _ => hk1 q h (by show ¬ H.size ≤ q; omega))) hS) ⟨hz1, fun q h1 h2 => hk1 q h1 (by show ¬ H.size ≤ q; omega)⟩

end QROWS
section PADDN
variable {p : Program} {l : Launch} {e : Env} {R : Room} {s : State} {m : MethodId} {args : Array Value} {below : List Frame} {meth : Method} {c : Code} {H : Heap} {locs : List Loc} {cells slots : Nat} {Q : State → Prop}
variable {cc : ByteArray} {pc : Nat} {ls : Array Slot} {rest : List Value} {D8 D : va_G} {J : Nat → ClassId} {o z N9 e0 mi : Nat} {aK aV : Nat → Nat} {G Ld : Nat → Prop} {aF : Nat → Nat} {Λ : Nat → Nat → (Nat → Int32) → Int32} {Λn : Nat → Int32} {σ τ : Cs}
theorem qinitLN (hx : p.tables.exec = Jvm.exec) (hb : c.code = cc) (hts : ∀ w ∈ lw_all, w.before args s = true) {own host : String} (hown : s.vm.findClass own = some m.cls) (hL : EL D8 D J o z aK aV G Ld aF Λ Λn e0 mi s) (hI : IP D J o Ld N9 s H locs σ) {nL : Nat} (hml : c.maxLocals = nL) (hlsz : ls.size = nL)
    {y : MethodName} {cd : ByteArray} {nL' fr lo n index a ci : Nat} {fs0 fs1 : List Value} {As : List Value} {E : Nat → (Nat → Prop) → Nat → Heap → Prop} (hM : ∀ (z : Nat), z ≤ a → Met l y (ws_ y cd nL' none) ({ frames := fr, cells := 1, slots := 3, locals := lo }) (va_Pc (.ref a :: As) (fun U => (U.heap.size = H.size ∧ va_at D vwC (a, .inr (ci, fs0)) U.heap) ∧ EM aK aV e0 D J z U)) (va_Qv (fun (_ : Unit) => True) (fun _ t => t.heap.size = H.size + 1 ∧ va_at D vwC (a, .inr (ci, fs1)) t.heap ∧ va_at D vwC (H.size, .inr (6, [.int (0 : Int32), .ref e0, .int 0])) t.heap) (fun x => x = a ∨ H.size ≤ x)) 1 3 (fun x => x = a ∨ H.size ≤ x))
    (cwl : va_CN R s args own index y host cd nL' none (ws_ y cd nL' none) ({ frames := fr, cells := 1, slots := 3, locals := lo }) 1 3 n ∧ y.name = "<init>" ∧ (Cond.instanceMethod y).before args s = true) (ha : N9 ≤ a) (haH : a < H.size) (hat : va_at D vwC (a, .inr (ci, fs0)) H)
    (hc : cells + 1 ≤ R.cells ∧ slots + 3 ≤ R.slots) (hn : As.length = n) {st : List Value} (hst0 : st = As.reverse ++ .ref a :: rest) (hW : 2 * (F0 m pc ls st).monitorRoom + (rest.map fun v => v.category).sum ≤ 8) (hdg : decode cc pc = .ok (.invokespecial index, 3))
    (kk : ∀ (H1 : Heap) (locs1 : List Loc) (els : Nat → Nat), IP D J o Ld N9 s H1 locs1 σ → GL D J N9 H1.size e0 E (a, .inr (ci, fs1)) H.size 0 0 els H1 → W p l e R s m args below meth c H1 locs1 (cells + 1) (slots + 3) Q (F0 m (pc + 3) ls rest)) : W p l e R s m args below meth c H locs cells slots Q (F0 m pc ls st) := by
  have hoz := hL.1.1.2.2.1
  have hoN := hI.2.2.2
  have hle := hI.le
  have he0 := hL.e0A
  refine va_callv (va_runIN (As := As) (rest := rest) ⟨hx, hb, hml, hown, hts⟩ (hM z (by omega)) cwl ⟨fun _ U g mk q => ⟨q.1, q.2.1, q.2.2.go (State.WarmedH.refl U) (fun _ _ _ => rfl)⟩, fun U hU hW => ⟨rfl, by rw [hU]; exact ⟨rfl, hat⟩, (hI.envL hL hU hW).2.1.1⟩⟩ rfl hn hlsz hst0 hW hdg ⟨hc.1, hc.2⟩) hI.2.1 (fun (q : Nat) _ h => Or.inr (by have h8 : q = a ∨ H.size ≤ q := h; omega)) (fun (q : Nat) h => Or.inr (by have h8 : q = a ∨ H.size ≤ q := h; omega)) (fun u t H1 locs1 ht hvm hp hB hz1 hk1 hS => ?_)
  obtain ⟨b0, b1, b2⟩ := hB
  rw [ht] at b0 b1 b2
  have hIn : IP D J o Ld N9 s H1 locs1 σ := hI.call (hI.1.kept (fun q h hr => hk1 q h (fun e => by have h8 : q = a ∨ H.size ≤ q := e; have := hr.2.1; omega))) hS
  have he9 : va_at D vwC (e0, qc (J 4) 0 (fun _ => none)) s.heap := hL.2.1.1.2.2.2
  have hel := he9.lt
  exact kk H1 locs1 (fun _ => 0) hIn ⟨0, e0, fun _ => none, ⟨ha, haH, by omega, by have h8 : e0 < s.heap.size := hel; have := hI.2.2.1; omega, Nat.le_refl _⟩, b1, b2, he9.kept (hIn.old e0 hel (fun g => by have := g.1; omega)), fun _ => rfl, fun h => by omega, ⟨by have h8 : e0 < s.heap.size := hel; have := hI.2.2.1; omega, by show e0 ≠ a; omega⟩, Nat.le_refl _, by decide, fun i hi => by omega, fun i hi => by omega⟩
end PADDN
/-! the law's parser: what each method answers and costs -/
def bnd {A B : Type} (x : Option (((A × Cs) ⊕ Cs) × Kc)) (f : A × Cs → Option (((B × Cs) ⊕ Cs) × Kc)) : Option (((B × Cs) ⊕ Cs) × Kc) := x.bind fun r => addc r.2 (Sum.elim f (fun u => some (.inr u, (0, 0))) r.1)
theorem bnd_e {A B : Type} {x : Option (((A × Cs) ⊕ Cs) × Kc)} {f : A × Cs → Option (((B × Cs) ⊕ Cs) × Kc)} {out : (B × Cs) ⊕ Cs} {C : Kc} (h : bnd x f = some (out, C)) : ∃ (xo : (A × Cs) ⊕ Cs) (xk C' : Kc), x = some (xo, xk) ∧ Sum.elim f (fun u => some (.inr u, (0, 0))) xo = some (out, C') ∧ C.1 = xk.1 + C'.1 ∧ C.2 = xk.2 + C'.2 := by
  obtain ⟨⟨xo, xk⟩, e, h⟩ := obd h
  obtain ⟨C', h1, h2, h3⟩ := addc_e h
  exact ⟨xo, xk, C', e, h1, h2, h3⟩
theorem prg_e {A : Type} {a out : A} {K C : Kc} (h : some (a, K) = some (out, C)) : out = a ∧ C = K := by
  cases h
  exact ⟨rfl, rfl⟩
theorem gup_lt {gs : Nat → FcV} {n i : Nat} {g : FcV} (h : i < n) : gup gs n g i = gs i := if_neg (by omega)
theorem gup_eq {gs : Nat → FcV} {n : Nat} {g : FcV} : gup gs n g n = g := if_pos rfl
theorem efnd_lt (js : Nat → Nat) (τ : Cs) : ∀ (k i j : Nat), efnd js τ k i = some j → j < i + k := by
  intro k
  induction k with
  | zero => intro i j h; cases h
  | succ k ih =>
    intro i j h
    unfold efnd at h
    by_cases c : weqR τ (js i) = 0
    · rw [if_pos c] at h
      have := ih _ _ h
      omega
    · rw [if_neg c] at h
      cases h
      omega
def X1_onePart (τ : Cs) : Option (FcP × Kc) :=
  (X3_isFigure τ).bind fun x => if x.1 = 0 then
    (X3_word x.2).bind fun t => addc (wC t, wS t) (addc (1, 7) (Option.elim (efnd jsF t 7 0) (some (.inr t, (1, 6))) fun i => addc (1, 2) (some (.inl (fun s => s i, t), (0, 0)))))
  else addc (1, 2) (bnd (X3_number x.2 0 999) fun v => some (.inl (fun _ => v.1, v.2), (0, 0)))
def X1_sumL : Nat → Cs → Nat → Nat → (Nat → FcV) → Option (FcP × Kc)
  | 0, _, _, _, _ => none
  | k + 1, τ, n, cap, gs => bnd (X1_onePart τ) fun v => if cap < 2 ^ 18 then addc (acC n cap, acS n cap) ((X3_sign v.2 43).bind fun y => if y.1 = 0 then some (.inl (fun s => sumI (n + 1) (fun i => gup gs n v.1 i s), y.2), (0, 0)) else X1_sumL k y.2 (n + 1) (ncap n cap) (gup gs n v.1)) else none
def X1_sum (τ : Cs) : Option (FcP × Kc) := addc (1, 1) (addc (1, 3) (X1_sumL FU τ 0 0 (fun _ _ => 0)))
def rowL (f : Cs → Option (FcP × Kc)) (j : Nat) (all : Int32) : Nat → Cs → Nat → Nat → (Nat → FcV) → Option (FcP × Kc)
  | 0, _, _, _, _ => none
  | k + 1, τ, n, cap, gs => bnd (f τ) fun v => if cap < 2 ^ 18 then addc (acC n cap, acS n cap) (bnd (X3_passes v.2 j) fun y => if y.1 = 0 then some (.inl (fun s => rowV all (n + 1) (fun i => gup gs n v.1 i s), y.2), (0, 0)) else rowL f j all k y.2 (n + 1) (ncap n cap) (gup gs n v.1)) else none
def X1_row (f : Cs → Option (FcP × Kc)) (j : Nat) (all : Int32) (τ : Cs) : Option (FcP × Kc) := addc (1, 2) (addc (1, 3) (rowL f j all FU τ 0 0 (fun _ _ => 0)))
def X1_atom : Nat → Cs → Option (FcP × Kc)
  | 0, _ => none
  | k + 1, τ => (X3_sign τ 40).bind fun x => if x.1 = 0 then
      bnd (X3_passes x.2 23) fun v => if v.1 = 0 then
        bnd (X3_passes v.2 24) fun v2 => if v2.1 = 0 then
          bnd (X3_passes v2.2 25) fun v3 => if v3.1 = 0 then
            bnd (X1_sum v3.2) fun a => (X3_sign a.2 60).bind fun y => if y.1 = 0 then
              (X3_sign y.2 62).bind fun y2 => if y2.1 = 0 then some (.inr y2.2, (1, 6))
              else addc (1, 2) (bnd (X1_sum y2.2) fun b => some (.inl (fun s => if b.1 s < a.1 s then 1 else 0, b.2), (0, 0)))
            else addc (1, 2) (bnd (X1_sum y.2) fun b => some (.inl (fun s => if a.1 s < b.1 s then 1 else 0, b.2), (0, 0)))
          else addc (1, 1) (some (.inl (fun s => s 8, v3.2), (0, 0)))
        else addc (1, 1) (some (.inl (fun s => s 7, v2.2), (0, 0)))
      else bnd (X3_goesDeeper v.2) fun w => bnd (X1_atom k w.2) fun a => (X3_comesUp a.2).bind fun t => addc (1, 1) (some (.inl (fun s => if a.1 s = 0 then 1 else 0, t), (0, 0)))
    else bnd (X3_goesDeeper x.2) fun w => bnd (X1_row (X1_row (X1_atom k) 26 1) 27 0 w.2) fun a => (X3_comesUp a.2).bind fun t => (X3_sign t 41).bind fun y => if y.1 = 0 then some (.inr y.2, (1, 6)) else some (.inl (a.1, y.2), (0, 0))
def X1_cond (k : Nat) (τ : Cs) : Option (FcP × Kc) := X1_row (X1_row (X1_atom k) 26 1) 27 0 τ
abbrev FcL : Type := ((Nat × Int32 × FcV) × Cs) ⊕ Cs
def X1_lawLine (τ : Cs) : Option (FcL × Kc) :=
  (X3_word τ).bind fun t => addc (wC t, wS t) (addc (1, 3) (Option.elim (efnd jsK t 3 0) (some (.inr t, (1, 6))) fun i => bnd (X3_number t 0 40) fun v => addc (1, 3) (bnd (X3_passes v.2 22) fun y => if y.1 = 0 then some (.inl ((i, v.1, fun _ => 1), y.2), (0, 0)) else bnd (X1_cond 7 y.2) fun w => some (.inl ((i, v.1, w.1), w.2), (0, 0)))))
def lup (ls : Nat → Nat × Int32 × FcV) (n : Nat) (g : Nat × Int32 × FcV) : Nat → Nat × Int32 × FcV := fun i => if i = n then g else ls i
theorem lup_lt {ls : Nat → Nat × Int32 × FcV} {n i : Nat} {g : Nat × Int32 × FcV} (h : i < n) : lup ls n g i = ls i := if_neg (by omega)
theorem lup_eq {ls : Nat → Nat × Int32 × FcV} {n : Nat} {g : Nat × Int32 × FcV} : lup ls n g n = g := if_pos rfl
def lsum (n : Nat) (ls : Nat → Nat × Int32 × FcV) : Nat → FcV := fun k s => sumI n (fun i => if (ls i).1 = k ∧ ¬ (ls i).2.2 s = 0 then (ls i).2.1 else 0)
abbrev FcW : Type := (((Nat → FcV) × Int32) × Cs) ⊕ Cs
def X1_lawL : Nat → Cs → Nat → Nat → (Nat → Nat × Int32 × FcV) → Option (FcW × Kc)
  | 0, _, _, _, _ => none
  | k + 1, τ, n, cap, ls => bnd (X1_noMore τ (nI n) 12) fun u => bnd (X1_lawLine u.2) fun v => if cap < 2 ^ 18 then addc (acC n cap, acS n cap) (bnd (X1_goesOn v.2) fun y => if y.1 = 0 then some (.inl ((lsum (n + 1) (lup ls n v.1), nI (n + 1)), y.2), (0, 0)) else X1_lawL k y.2 (n + 1) (ncap n cap) (lup ls n v.1)) else none
def X1_lawText (τ : Cs) : Option (FcW × Kc) := addc (1, 1) (addc (1, 3) ((X3_isOver τ).bind fun x => if x.1 = 0 then X1_lawL FU x.2 0 0 (fun _ => (0, 0, fun _ => 0)) else some (.inl ((fun _ _ => 0, nI 0), x.2), (0, 0))))
