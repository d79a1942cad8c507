/-! ROWS BY ONE CELL: what is known of one cell; all other cells stay -/
section GCELL
variable {p : Program} {l : Launch} {e : Env} {R : Room} {s : State} {m : MethodId} {args : Array Value} {below : List Frame} {meth : Method} {c : Code} {H : Heap} {locs : List Loc} {cells slots : Nat} {Q : State → Prop}
variable {cc : ByteArray} {pc : Nat} {ls : Array Slot} {rest : List Value} {D : va_G} {cl : List vw_C} {a : Nat} {tys : List (ClassId × FieldType)}
theorem va_P1 {q : Nat × va_E} (h : va_at D cl q H) : va_P D cl [q] H := by
  intro k r hk
  match k, hk with
  | 0, hk => cases hk; exact h
/-- getfield of a cell: a link of the class's own -/
theorem gget (hx : p.tables.exec = Jvm.exec) (hb : c.code = cc) (hts : ∀ w ∈ lw_all, w.before args s = true) {own C : String} {T : u_T} {N ci index : Nat} {fs : List Value} (hin : ∀ w ∈ u_ws C T N, w ∈ lw_all) (hown : s.vm.findClass own = some m.cls) (hK : va_K D cl tys s) (hat : va_at D cl (a, .inr (ci, fs)) H) (hc : cl[ci]? = some (C, T, N)) (k : Nat) (hk : k < N) (hl : Cond.fieldLink own index (T k).1 (T k).2.1 (T k).2.2.1 ∈ lw_all) {v : Value} (hv : fs[k]? = some v) (hdg : decode cc pc = .ok (.getfield index, 3))
    (kk : W p l e R s m args below meth c H locs cells slots Q (F0 m (pc + 3) ls (v :: rest))) : W p l e R s m args below meth c H locs cells slots Q (F0 m pc ls (.ref a :: rest)) :=
  va_get (ref := (T k).1) hx hb hts hin hown hK (va_P1 hat) 0 rfl hc k hk (hts _ hl) (fun _ h => h) hv hdg kk
/-- .. of a nest mate's -/
theorem ggetN (hx : p.tables.exec = Jvm.exec) (hb : c.code = cc) (hts : ∀ w ∈ lw_all, w.before args s = true) {own C host : String} {T : u_T} {N ci index : Nat} {fs : List Value} (hin : ∀ w ∈ u_ws C T N, w ∈ lw_all) (hown : s.vm.findClass own = some m.cls) (hK : va_K D cl tys s) (hat : va_at D cl (a, .inr (ci, fs)) H) (hc : cl[ci]? = some (C, T, N)) (k : Nat) (hk : k < N) (hl : (Cond.fieldLinkNest own index (T k).1 (T k).2.1 (T k).2.2.1 host).before args s = true) {v : Value} (hv : fs[k]? = some v) (hdg : decode cc pc = .ok (.getfield index, 3))
    (kk : W p l e R s m args below meth c H locs cells slots Q (F0 m (pc + 3) ls (v :: rest))) : W p l e R s m args below meth c H locs cells slots Q (F0 m pc ls (.ref a :: rest)) :=
  va_getN (ref := (T k).1) hx hb hts hin hown hK (va_P1 hat) 0 rfl hc k hk hl (fun _ h => h) hv hdg kk
theorem gput (hx : p.tables.exec = Jvm.exec) (hb : c.code = cc) (hts : ∀ w ∈ lw_all, w.before args s = true) {own C : String} {T : u_T} {N ci index : Nat} {fs : List Value} (hin : ∀ w ∈ u_ws C T N, w ∈ lw_all) (ty0 : Nat → FieldType) (hty : ∀ k, k < N → parseFieldDescriptor (T k).2.2.1 = some (ty0 k)) (hnm : ∀ a, a < N → ∀ b, b < N → a ≠ b → (T a).2.1 ≠ (T b).2.1) (hown : s.vm.findClass own = some m.cls) (hK : va_K D cl tys s) (hat : va_at D cl (a, .inr (ci, fs)) H) (hc : cl[ci]? = some (C, T, N)) (k : Nat) (hk : k < N) (hl : Cond.fieldLink own index (T k).1 (T k).2.1 (T k).2.2.1 ∈ lw_all) (hfin : (T k).2.2.2 = false) {v : Value} (hn : narrow (ty0 k) v = v) (hfit : fits (ty0 k) v = true) (hll : k < fs.length)
    (hdg : decode cc pc = .ok (.putfield index, 3)) (kk : ∀ (H1 : Heap) (locs1 : List Loc), va_at D cl (a, .inr (ci, fs.set k v)) H1 → H1.size = H.size → (∀ q : Nat, q ≠ a → H1[q]? = H[q]?) → (∀ l ∈ locs1, l ∈ locs ∨ l.base = a) → W p l e R s m args below meth c H1 locs1 cells slots Q (F0 m (pc + 3) ls rest)) : W p l e R s m args below meth c H locs cells slots Q (F0 m pc ls (v :: .ref a :: rest)) := by
  have hap := va_apart (own := own) hts hin ty0 hty hnm hK hc
  obtain ⟨r, h1, cell, q1, q2, q3, q4⟩ := hat
  have hr : r = (C, T, N) := Option.some.inj (h1.symm.trans hc)
  subst hr
  obtain ⟨hS, hfc, kC, hkC, hkind⟩ := hK.1 ci _ hc
  obtain ⟨cf, kf, fi, f, hi, hsl⟩ := hS k hk
  have hlay := hts _ (hin _ (u_in_lay hk))
  unfold u_lay at hlay
  rw [if_neg (by rw [hfin]; decide)] at hlay
  have hst := (u_facts hfc hkC (u_lays hts hin hk) hi).1
  have h6 := u_store hfc hkC hkind hlay hi (hty k hk) hn hfit
  refine W.putK hx hb (f := f) ⟨hown, hts _ hl, ⟨_, _, _, hi⟩, hst⟩ (by rw [q2]; exact h6) q1 q3 (by rw [hsl]; exact k2_hasslot (q4 k hk)) rfl rfl hdg fun H' e1 e2 e3 => ?_
  rw [hsl] at e1 ⊢
  refine kk H' _ ⟨_, hc, t_OB.to (V := updV (vp_V fs) k v) ⟨_, e1, q2, q3, t_set q4 hap hk v⟩ (fun j _ => vp_updV_set hll v j)⟩ e2 e3 (fun l hl9 => ?_)
  rcases List.mem_append.mp hl9 with h | h
  · exact Or.inl h
  · right
    rw [List.mem_singleton.mp h]
theorem gputN (hx : p.tables.exec = Jvm.exec) (hb : c.code = cc) (hts : ∀ w ∈ lw_all, w.before args s = true) {own C host : String} {T : u_T} {N ci index : Nat} {fs : List Value} (hin : ∀ w ∈ u_ws C T N, w ∈ lw_all) (ty0 : Nat → FieldType) (hty : ∀ k, k < N → parseFieldDescriptor (T k).2.2.1 = some (ty0 k)) (hnm : ∀ a, a < N → ∀ b, b < N → a ≠ b → (T a).2.1 ≠ (T b).2.1) (hown : s.vm.findClass own = some m.cls) (hK : va_K D cl tys s) (hat : va_at D cl (a, .inr (ci, fs)) H) (hc : cl[ci]? = some (C, T, N)) (k : Nat) (hk : k < N) (hl : (Cond.fieldLinkNest own index (T k).1 (T k).2.1 (T k).2.2.1 host).before args s = true) (hfin : (T k).2.2.2 = false) {v : Value} (hn : narrow (ty0 k) v = v) (hfit : fits (ty0 k) v = true) (hll : k < fs.length)
    (hdg : decode cc pc = .ok (.putfield index, 3)) (kk : ∀ (H1 : Heap) (locs1 : List Loc), va_at D cl (a, .inr (ci, fs.set k v)) H1 → H1.size = H.size → (∀ q : Nat, q ≠ a → H1[q]? = H[q]?) → (∀ l ∈ locs1, l ∈ locs ∨ l.base = a) → W p l e R s m args below meth c H1 locs1 cells slots Q (F0 m (pc + 3) ls rest)) : W p l e R s m args below meth c H locs cells slots Q (F0 m pc ls (v :: .ref a :: rest)) := by
  have hap := va_apart (own := own) hts hin ty0 hty hnm hK hc
  obtain ⟨r, h1, cell, q1, q2, q3, q4⟩ := hat
  have hr : r = (C, T, N) := Option.some.inj (h1.symm.trans hc)
  subst hr
  obtain ⟨hS, hfc, kC, hkC, hkind⟩ := hK.1 ci _ hc
  obtain ⟨cf, kf, fi, f, hi, hsl⟩ := hS k hk
  have hlay := hts _ (hin _ (u_in_lay hk))
  unfold u_lay at hlay
  rw [if_neg (by rw [hfin]; decide)] at hlay
  have hst := (u_facts hfc hkC (u_lays hts hin hk) hi).1
  have h6 := u_store hfc hkC hkind hlay hi (hty k hk) hn hfit
  refine va_WputK hx hb (f := f) hown hl hi hst (by rw [q2]; exact h6) q1 q3 (by rw [hsl]; exact k2_hasslot (q4 k hk)) rfl rfl hdg fun H' e1 e2 e3 => ?_
  rw [hsl] at e1 ⊢
  refine kk H' _ ⟨_, hc, t_OB.to (V := updV (vp_V fs) k v) ⟨_, e1, q2, q3, t_set q4 hap hk v⟩ (fun j _ => vp_updV_set hll v j)⟩ e2 e3 (fun l hl9 => ?_)
  rcases List.mem_append.mp hl9 with h | h
  · exact Or.inl h
  · right
    rw [List.mem_singleton.mp h]
/-- loads -/
theorem gald (hx : p.tables.exec = Jvm.exec) (hb : c.code = cc) (hK : va_K D cl tys s) (t0 : Nat) {cA : ClassId} {n : Nat} {f : Nat → Int32} (hat : va_at D cl (a, .inl (cA, n, .inl f)) H) (ht : tys[t0]? = some (cA, .int)) {i x : Int32} (hl : ld n f i = some x) (hdg : decode cc pc = .ok (.iaload, 1))
    (kk : W p l e R s m args below meth c H locs cells slots Q (F0 m (pc + 1) ls (.int x :: rest))) : W p l e R s m args below meth c H locs cells slots Q (F0 m pc ls (.int i :: .ref a :: rest)) := by
  obtain ⟨h1, h2⟩ := ld_e hl
  subst h2
  exact va_iald hx hb hK (va_P1 hat) 0 t0 rfl ht h1 hdg kk
theorem galdc (hx : p.tables.exec = Jvm.exec) (hb : c.code = cc) (hK : va_K D cl tys s) (t0 j : Nat) {cA : ClassId} {n : Nat} {f : Nat → Int32} (hat : va_at D cl (a, .inl (cA, n, .inl f)) H) (ht : tys[t0]? = some (cA, .int)) {i : Int32} (hi : inb i n = true) (hj : i.toNatClampNeg = j) (hdg : decode cc pc = .ok (.iaload, 1))
    (kk : W p l e R s m args below meth c H locs cells slots Q (F0 m (pc + 1) ls (.int (f j) :: rest))) : W p l e R s m args below meth c H locs cells slots Q (F0 m pc ls (.int i :: .ref a :: rest)) := by
  subst hj
  exact va_iald hx hb hK (va_P1 hat) 0 t0 rfl ht (inb_in hi) hdg kk
theorem gzld (hx : p.tables.exec = Jvm.exec) (hb : c.code = cc) (hK : va_K D cl tys s) (t0 : Nat) {cA : ClassId} {n : Nat} {f : Nat → Int32} (hat : va_at D cl (a, .inl (cA, n, .inl f)) H) (ht : tys[t0]? = some (cA, .boolean)) {i x : Int32} (hl : ld n f i = some x) (hdg : decode cc pc = .ok (.baload, 1))
    (kk : W p l e R s m args below meth c H locs cells slots Q (F0 m (pc + 1) ls (.int x :: rest))) : W p l e R s m args below meth c H locs cells slots Q (F0 m pc ls (.int i :: .ref a :: rest)) := by
  obtain ⟨h1, h2⟩ := ld_e hl
  subst h2
  exact va_zald hx hb hK (va_P1 hat) 0 t0 rfl ht h1 hdg kk
theorem gbld (hx : p.tables.exec = Jvm.exec) (hb : c.code = cc) (hK : va_K D cl tys s) (t0 : Nat) {cA : ClassId} {n : Nat} {f : Nat → Int32} (hat : va_at D cl (a, .inl (cA, n, .inl f)) H) (ht : tys[t0]? = some (cA, .byte)) {i x : Int32} (hl : ld n f i = some x) (hdg : decode cc pc = .ok (.baload, 1))
    (kk : W p l e R s m args below meth c H locs cells slots Q (F0 m (pc + 1) ls (.int x :: rest))) : W p l e R s m args below meth c H locs cells slots Q (F0 m pc ls (.int i :: .ref a :: rest)) := by
  obtain ⟨h1, h2⟩ := ld_e hl
  subst h2
  exact va_bald hx hb hK (va_P1 hat) 0 t0 rfl ht h1 hdg kk
/-- stores: the cell behind it -/
def stof (n : Nat) (f : Nat → Int32) (i x : Int32) : Option (Nat → Int32) := if inb i n = true then some (upd f i.toNatClampNeg x) else none
theorem stof_e {n : Nat} {f g : Nat → Int32} {i x : Int32} (h : stof n f i x = some g) : vp_in i n ∧ upd f i.toNatClampNeg x = g := by
  unfold stof at h
  by_cases c : inb i n = true
  · rw [if_pos c] at h
    exact ⟨inb_in c, Option.some.inj h⟩
  · rw [if_neg c] at h
    cases h
theorem cell_upd {cA : ClassId} {n k : Nat} {f : Nat → Int32} {x : Int32} : (vp_cell cA (n, .inl f)).setSlot k (.int x) = vp_cell cA (n, .inl (upd f k x)) := by
  rw [vp_cell_i, vp_cell_i, arrV_store]
  congr 1
  funext q
  by_cases hq : q = k
  · subst hq
    simp [updV, upd]
  · simp [updV, upd, hq]
theorem loc1 {L : List Loc} {a i : Nat} : ∀ l ∈ L ++ [(⟨a, i⟩ : Loc)], l ∈ L ∨ l.base = a := by
  intro l h
  rcases List.mem_append.mp h with h | h
  · exact Or.inl h
  · right; rw [List.mem_singleton.mp h]
theorem gast (hx : p.tables.exec = Jvm.exec) (hb : c.code = cc) (hK : va_K D cl tys s) (t0 : Nat) {cA : ClassId} {n : Nat} {f g : Nat → Int32} (hat : va_at D cl (a, .inl (cA, n, .inl f)) H) (ht : tys[t0]? = some (cA, .int)) {i x : Int32} (hl : stof n f i x = some g) (hdg : decode cc pc = .ok (.iastore, 1))
    (kk : ∀ (H1 : Heap) (locs1 : List Loc), va_at D cl (a, .inl (cA, n, .inl g)) H1 → H1.size = H.size → (∀ q : Nat, q ≠ a → H1[q]? = H[q]?) → (∀ l ∈ locs1, l ∈ locs ∨ l.base = a) → W p l e R s m args below meth c H1 locs1 cells slots Q (F0 m (pc + 1) ls rest)) : W p l e R s m args below meth c H locs cells slots Q (F0 m pc ls (.int x :: .int i :: .ref a :: rest)) := by
  obtain ⟨h1, h2⟩ := stof_e hl
  subst h2
  refine W.iast hx hb hat ((hK.2 t0 _ ht).1 n (fun j => .int (f j))) (fun q => by cases q) (by show ¬ (i < 0 ∨ (arrV _ _ _).slots.size ≤ _); rw [arrV_size]; exact h1) rfl rfl hdg fun H1 e z oq => kk H1 _ ?_ z oq loc1
  show H1[a]? = _
  rw [e, cell_upd]
theorem gzst (hx : p.tables.exec = Jvm.exec) (hb : c.code = cc) (hK : va_K D cl tys s) (t0 : Nat) {cA : ClassId} {n : Nat} {f g : Nat → Int32} (hat : va_at D cl (a, .inl (cA, n, .inl f)) H) (ht : tys[t0]? = some (cA, .boolean)) {i x : Int32} (hz : x = 0 ∨ x = 1) (hl : stof n f i x = some g) (hdg : decode cc pc = .ok (.bastore, 1))
    (kk : ∀ (H1 : Heap) (locs1 : List Loc), va_at D cl (a, .inl (cA, n, .inl g)) H1 → H1.size = H.size → (∀ q : Nat, q ≠ a → H1[q]? = H[q]?) → (∀ l ∈ locs1, l ∈ locs ∨ l.base = a) → W p l e R s m args below meth c H1 locs1 cells slots Q (F0 m (pc + 1) ls rest)) : W p l e R s m args below meth c H locs cells slots Q (F0 m pc ls (.int x :: .int i :: .ref a :: rest)) := by
  obtain ⟨h1, h2⟩ := stof_e hl
  subst h2
  refine W.zast hx hb hat ((hK.2 t0 _ ht).1 n (fun j => .int (f j))) (fun q => by cases q) (by show ¬ (i < 0 ∨ (arrV _ _ _).slots.size ≤ _); rw [arrV_size]; exact h1) rfl rfl hdg fun H1 e z oq => kk H1 _ ?_ z oq loc1
  show H1[a]? = _
  rw [e, zb_n hz, cell_upd]
theorem gbst (hx : p.tables.exec = Jvm.exec) (hb : c.code = cc) (hK : va_K D cl tys s) (t0 : Nat) {cA : ClassId} {n : Nat} {f g : Nat → Int32} (hat : va_at D cl (a, .inl (cA, n, .inl f)) H) (ht : tys[t0]? = some (cA, .byte)) {i x : Int32} (hz : narrow .byte (.int x) = .int x) (hl : stof n f i x = some g) (hdg : decode cc pc = .ok (.bastore, 1))
    (kk : ∀ (H1 : Heap) (locs1 : List Loc), va_at D cl (a, .inl (cA, n, .inl g)) H1 → H1.size = H.size → (∀ q : Nat, q ≠ a → H1[q]? = H[q]?) → (∀ l ∈ locs1, l ∈ locs ∨ l.base = a) → W p l e R s m args below meth c H1 locs1 cells slots Q (F0 m (pc + 1) ls rest)) : W p l e R s m args below meth c H locs cells slots Q (F0 m pc ls (.int x :: .int i :: .ref a :: rest)) := by
  obtain ⟨h1, h2⟩ := stof_e hl
  subst h2
  refine W.bast hx hb hat ((hK.2 t0 _ ht).1 n (fun j => .int (f j))) (fun q => by cases q) (by show ¬ (i < 0 ∨ (arrV _ _ _).slots.size ≤ _); rw [arrV_size]; exact h1) rfl rfl hdg fun H1 e z oq => kk H1 _ ?_ z oq loc1
  show H1[a]? = _
  rw [e, hz, cell_upd]
/-- System.arraycopy from one int, boolean or byte array to another (or the same) -/
theorem gcopy (hx : p.tables.exec = Jvm.exec) (hb : c.code = cc) (hml : c.maxLocals = ls.size) (hts : ∀ w ∈ lw_all, w.before args s = true) {own : String} (hown : s.vm.findClass own = some m.cls) (hK : va_K D cl tys s) (t0 : Nat) {index a0 n0 n1 : Nat} {cA : ClassId} {f g : Nat → Int32} {ty : FieldType} {sp dp n : Int32} (hlk : Cond.methodLink own index arraycopyName ∈ lw_all) (h0 : va_at D cl (a0, .inl (cA, n0, .inl f)) H) (h1 : va_at D cl (a, .inl (cA, n1, .inl g)) H) (ht : tys[t0]? = some (cA, ty)) (hprim : refKind ty = false)
    (hc : ¬ sp < 0 ∧ ¬ dp < 0 ∧ ¬ n < 0 ∧ sp.toNatClampNeg + n.toNatClampNeg ≤ n0 ∧ dp.toNatClampNeg + n.toNatClampNeg ≤ n1) (hfit : ∀ i, i < n.toNatClampNeg → fits ty (.int (f (sp.toNatClampNeg + i))) = true) (hframes : 1 ≤ R.frames) (hlocals : (rest.map fun v => v.category).sum + (nativeFrameWords "java/lang/System" "arraycopy" 5 + 11) ≤ R.locals) (hdg : decode cc pc = .ok (.invokestatic index, 3))
    (kk : ∀ (H1 : Heap) (locs1 : List Loc), va_at D cl (a, .inl (cA, n1, .inl (va_cpy f g sp.toNatClampNeg dp.toNatClampNeg n.toNatClampNeg))) H1 → H1.size = H.size → (∀ q : Nat, q ≠ a → H1[q]? = H[q]?) → (∀ l ∈ locs1, l ∈ locs ∨ l.base = a) → W p l e R s m args below meth c H1 locs1 cells slots Q (F0 m (pc + 3) ls rest)) : W p l e R s m args below meth c H locs cells slots Q (F0 m pc ls (.int n :: .int dp :: .ref a :: .int sp :: .ref a0 :: rest)) := by
  obtain ⟨g1, g2, g3, g4, g5⟩ := hc
  have nn : ∀ z : Int32, ¬ z < 0 → z.toInt = (z.toNatClampNeg : Int) := by
    intro z hz
    have hz0 : (0 : Int) ≤ z.toInt := by simpa using Int32.le_iff_toInt_le.mp (Int32.not_lt.mp hz)
    show z.toInt = ((z.toInt.toNat : Nat) : Int)
    omega
  intro T hT X
  have hc0 : H[a0]? = some (vp_cell cA (n0, .inl f)) := h0
  have hc1 : H[a]? = some (vp_cell cA (n1, .inl g)) := h1
  obtain ⟨-, k0, hk0, cm0, hkk0⟩ := (hK.2 t0 _ ht).1 n0 (fun j => .int (f j))
  obtain ⟨-, k1, hk1, cm1, hkk1⟩ := (hK.2 t0 _ ht).1 n1 (fun j => .int (g j))
  obtain ⟨vm', X', step⟩ := X.arraycopy hx hown (hts _ hlk) (hts _ q570) (hts _ q569) (hts _ q144) (src := a0) (dst := a) (cs := vp_cell cA (n0, .inl f)) (cd := vp_cell cA (n1, .inl g)) (srcPos := sp) (destPos := dp) (n := n) (by rw [hT]; exact hc0) (by rw [hT]; exact hc1)
    (fun _ h => by cases h) (fun _ h => by cases h) (fun h => by cases h) (fun h => by cases h) hk0 hk1 hkk0 hkk1 (by simp [hprim]) g1 g2 g3
    (by rw [nn sp g1, nn n g3]; show ¬ _ > ((arrV cA n0 (fun j => .int (f j))).slots.size : Int); rw [arrV_size]; omega)
    (by rw [nn dp g2, nn n g3]; show ¬ _ > ((arrV cA n1 (fun j => .int (g j))).slots.size : Int); rw [arrV_size]; omega)
    (fun vm₁ _ i hi => by
      have e9 : (vp_cell cA (n0, .inl f)).slots.getD (sp.toNatClampNeg + i) .null = .int (f (sp.toNatClampNeg + i)) := by
        show (arrV cA n0 (fun j => .int (f j))).slots.getD _ _ = _
        rw [Array.getD_eq_getD_getElem?, arrV_read _ _ (by omega)]
        rfl
      rw [e9]
      exact ⟨hfit i hi, trivial⟩)
    (g := F0 m pc ls (.int n :: .int dp :: .ref a :: .int sp :: .ref a0 :: rest)) rfl (by rw [hml]) (rest := rest) rfl (by rw [hb]; exact hdg) hframes (by show 2 * 0 + _ + _ ≤ _; omega)
  have e1 : copied (vp_cell cA (n0, .inl f)) (vp_cell cA (n1, .inl g)) sp dp n = vp_cell cA (n1, .inl (va_cpy f g sp.toNatClampNeg dp.toNatClampNeg n.toNatClampNeg)) := va_copied (fun z => .int z) cA cA f g g4
  rw [e1] at X' step
  have hl : a < H.size := (Array.getElem?_eq_some_iff.mp hc1).1
  obtain ⟨t, b1, b2⟩ := kk (H.setIfInBounds a (vp_cell cA (n1, .inl (va_cpy f g sp.toNatClampNeg dp.toNatClampNeg n.toNatClampNeg)))) _ (show (H.setIfInBounds a _)[a]? = some _ by simp [Array.getElem?_setIfInBounds, hl]) (by simp) (fun q hq => by simp [Array.getElem?_setIfInBounds, Ne.symm hq]) (fun l h9 => by
      rcases List.mem_append.mp h9 with h | h
      · exact Or.inl h
      · obtain ⟨z, -, hz⟩ := List.mem_map.mp h
        right
        rw [← hz]) _ (by rw [← hT]; rfl) X'
  exact ⟨t, step t b1, b2⟩
/-- contents that agree within the length are one cell -/
theorem cell_ext {cA : ClassId} {n : Nat} {f g : Nat → Int32} (h : ∀ j, j < n → f j = g j) : vp_cell cA (n, .inl f) = vp_cell cA (n, .inl g) := by
  show arrV cA n (fun j => .int (f j)) = arrV cA n (fun j => .int (g j))
  unfold arrV
  congr 1
  apply Array.ext
  · simp
  · intro i h1 h2
    simp only [Array.getElem_ofFn]
    rw [h i (by simpa using h1)]
end GCELL

/-! THE COMPONENT: an object at o and what is made with it, o .. o+110: five worlds (world, draft, image, then, trial), reader and tape, scene, readings, sheets, price, sold; the list of worlds (o+85) isn't in it. Its state: the worlds' memories; a memory of the rest (0 the object's fields, 1 the reader's, 2 the tape, 3 scene, 4 readings, 5 from, 6 till, 7 price, 8 sold); the laws' addresses; the readings' sum -/
abbrev Cs : Type := (Nat → Mm) × Mm × (Nat → Option Nat) × Int64
def cw (σ : Cs) : Nat → Mm := σ.1
def co (σ : Cs) : Mm := σ.2.1
def cl (σ : Cs) : Nat → Option Nat := σ.2.2.1
def cq (σ : Cs) : Int64 := σ.2.2.2
def cwu (σ : Cs) (k : Nat) (w : Mm) : Cs := (fun i => if i = k then w else σ.1 i, σ.2)
def cou (σ : Cs) (w : Mm) : Cs := (σ.1, w, σ.2.2)
def clu (σ : Cs) (k : Nat) (x : Option Nat) : Cs := (σ.1, σ.2.1, fun i => if i = k then x else σ.2.2.1 i, σ.2.2.2)
def cqu (σ : Cs) (x : Int64) : Cs := (σ.1, σ.2.1, σ.2.2.1, x)
def wOf : Nat → Nat
  | 0 => 1
  | 1 => 21
  | 2 => 41
  | 3 => 64
  | _ => 91
def wA (o k : Nat) : Nat := o + wOf k
theorem wOf_apart : ∀ i, i < 5 → ∀ j, j < 5 → i ≠ j → wOf i + 19 < wOf j ∨ wOf j + 19 < wOf i := by decide
theorem wOf_in : ∀ i, i < 5 → 1 ≤ wOf i ∧ wOf i + 19 ≤ 110 ∧ (wOf i + 19 < 61 ∨ 63 < wOf i) ∧ (wOf i + 19 < 84 ∨ 90 < wOf i) := by decide
abbrev fsL (o : Nat) (σ : Cs) : List Value := [.ref (wA o 0), .ref (wA o 1), .ref (wA o 2), .int (co σ 0 3), .ref (o + 61), .ref (o + 63), .ref (wA o 3), .ref (o + 84), .ref (o + 85), .ref (o + 86), .ref (o + 89), .ref (o + 90), .ref (wA o 4)]
abbrev fsR (o : Nat) (σ : Cs) : List Value := [.ref (o + 62), .int (co σ 1 1), .int (co σ 1 2), .int (co σ 1 3), .int (co σ 1 4), .int (co σ 1 5), .int (co σ 1 6)]
abbrev fsS (o : Nat) (σ : Cs) : List Value := [.int (co σ 3 0), .int (co σ 3 1), .int (co σ 3 2), .int (co σ 3 3), .int (co σ 3 4), .int (co σ 3 5), .int (co σ 3 6), .int (co σ 3 7), .int (co σ 3 8)]
abbrev fsG (o : Nat) (σ : Cs) : List Value := [.int (co σ 4 0), .int (co σ 4 1), .int (co σ 4 2), .long (cq σ), .ref o]
abbrev fsJ (o : Nat) (σ : Cs) : List Value := [.ref (o + 87), .ref (o + 88), .ref o]
abbrev ctO (J : Nat → ClassId) (o : Nat) (σ : Cs) : va_W := [(o, .inr (0, fsL o σ)), (o + 61, .inr (2, fsR o σ)), (o + 62, .inl (J 2, 400, .inl (co σ 2))), (o + 63, .inr (3, fsS o σ)), (o + 84, .inr (4, fsG o σ)), (o + 86, .inr (5, fsJ o σ)), (o + 87, .inl (J 0, 126, .inl (co σ 5))), (o + 88, .inl (J 0, 126, .inl (co σ 6))), (o + 89, .inl (J 0, 8, .inl (co σ 7))), (o + 90, .inl (J 0, 576, .inl (co σ 8)))]
def oOf : List Nat := [0, 61, 62, 63, 84, 86, 87, 88, 89, 90]
theorem ctO_at {J : Nat → ClassId} {o : Nat} {σ : Cs} : ∀ (i : Nat) (p : Nat × va_E), (ctO J o σ)[i]? = some p → ∃ d, oOf[i]? = some d ∧ p.1 = o + d := by
  intro i p h
  match i, h with
  | 0, h => cases h; exact ⟨0, rfl, rfl⟩
  | 1, h => cases h; exact ⟨61, rfl, rfl⟩
  | 2, h => cases h; exact ⟨62, rfl, rfl⟩
  | 3, h => cases h; exact ⟨63, rfl, rfl⟩
  | 4, h => cases h; exact ⟨84, rfl, rfl⟩
  | 5, h => cases h; exact ⟨86, rfl, rfl⟩
  | 6, h => cases h; exact ⟨87, rfl, rfl⟩
  | 7, h => cases h; exact ⟨88, rfl, rfl⟩
  | 8, h => cases h; exact ⟨89, rfl, rfl⟩
  | 9, h => cases h; exact ⟨90, rfl, rfl⟩
  | i + 10, h => cases h
theorem oOf_in : ∀ (i d : Nat), oOf[i]? = some d → d ≤ 90 ∧ d ≠ 85 ∧ (∀ k, k < 5 → d < wOf k ∨ wOf k + 19 < d) := by
  intro i d h
  match i, h with
  | 0, h => cases h; exact ⟨by decide, by decide, by decide⟩
  | 1, h => cases h; exact ⟨by decide, by decide, by decide⟩
  | 2, h => cases h; exact ⟨by decide, by decide, by decide⟩
  | 3, h => cases h; exact ⟨by decide, by decide, by decide⟩
  | 4, h => cases h; exact ⟨by decide, by decide, by decide⟩
  | 5, h => cases h; exact ⟨by decide, by decide, by decide⟩
  | 6, h => cases h; exact ⟨by decide, by decide, by decide⟩
  | 7, h => cases h; exact ⟨by decide, by decide, by decide⟩
  | 8, h => cases h; exact ⟨by decide, by decide, by decide⟩
  | 9, h => cases h; exact ⟨by decide, by decide, by decide⟩
  | i + 10, h => cases h
theorem oOf_inj : ∀ (i j d : Nat), oOf[i]? = some d → oOf[j]? = some d → i = j := by
  have h : ∀ i : Nat, i < 10 → ∀ j : Nat, j < 10 → oOf[i]? = oOf[j]? → i = j := by decide
  intro i j d h1 h2
  have l1 : i < 10 := (List.getElem?_eq_some_iff.mp h1).1
  have l2 : j < 10 := (List.getElem?_eq_some_iff.mp h2).1
  exact h i l1 j l2 (h1.trans h2.symm)
/-- what the component's methods may write -/
def rC (o : Nat) : Nat → Prop := fun q => o ≤ q ∧ q ≤ o + 110 ∧ q ≠ o + 85
/-- the picture: Ld says which laws are good -/
def PC (D : va_G) (J : Nat → ClassId) (o : Nat) (Ld : Nat → Prop) (σ : Cs) (H : Heap) : Prop := (∀ k, k < 5 → va_P D vwC (ctW J (wA o k) (cl σ k) (cw σ k)) H) ∧ va_P D vwC (ctO J o σ) H ∧ ∀ k, k < 5 → ∀ a, cl σ k = some a → Ld a
theorem PC.w {D : va_G} {J : Nat → ClassId} {o : Nat} {Ld : Nat → Prop} {σ : Cs} {H : Heap} (h : PC D J o Ld σ H) (k : Nat) (hk : k < 5) (i : Nat) {e : Nat × va_E} (he : (ctW J (wA o k) (cl σ k) (cw σ k))[i]? = some e) : va_at D vwC e H := h.1 k hk i e he
theorem PC.o {D : va_G} {J : Nat → ClassId} {o : Nat} {Ld : Nat → Prop} {σ : Cs} {H : Heap} (h : PC D J o Ld σ H) (i : Nat) {e : Nat × va_E} (he : (ctO J o σ)[i]? = some e) : va_at D vwC e H := h.2.1 i e he
/-- a world has changed, all else has stayed -/
theorem PC.setW {D : va_G} {J : Nat → ClassId} {o : Nat} {Ld : Nat → Prop} {σ σ' : Cs} {H H1 : Heap} (h : PC D J o Ld σ H) {k : Nat} (hk : k < 5) (hw : va_P D vwC (ctW J (wA o k) (cl σ' k) (cw σ' k)) H1) (hq : ∀ q : Nat, q < H.size → ¬ rW (wA o k) q → H1[q]? = H[q]?) (h1 : ∀ i, i ≠ k → cw σ' i = cw σ i ∧ cl σ' i = cl σ i) (h2 : co σ' = co σ ∧ cq σ' = cq σ) (h3 : ∀ a, cl σ' k = some a → Ld a) : PC D J o Ld σ' H1 := by
  refine ⟨fun i hi => ?_, ?_, fun i hi a ha => ?_⟩
  · by_cases e : i = k
    · subst e; exact hw
    · rw [(h1 i e).1, (h1 i e).2]
      refine (h.1 i hi).kept (fun n q hn => hq q.1 (h.1 i hi n q hn).lt (fun hr => ?_))
      have a1 := ctW_at n q hn
      have a2 := wOf_apart i hi k hk e
      obtain ⟨b1, b2⟩ := hr
      simp only [wA] at a1 b1 b2
      omega
  · have e9 : ctO J o σ' = ctO J o σ := by
      unfold ctO fsL fsR fsS fsG fsJ
      rw [h2.1, h2.2]
    rw [e9]
    refine h.2.1.kept (fun n q hn => hq q.1 (h.2.1 n q hn).lt (fun hr => ?_))
    obtain ⟨d, hd, e1⟩ := ctO_at n q hn
    have a2 := (oOf_in n d hd).2.2 k hk
    obtain ⟨b1, b2⟩ := hr
    simp only [wA] at b1 b2
    omega
  · by_cases e : i = k
    · subst e; exact h3 a ha
    · rw [(h1 i e).2] at ha
      exact h.2.2 i hi a ha
/-- one cell of the rest has changed -/
theorem PC.setO {D : va_G} {J : Nat → ClassId} {o : Nat} {Ld : Nat → Prop} {σ σ' : Cs} {H H1 : Heap} (h : PC D J o Ld σ H) {P a : Nat} {e0 e1 : va_E} (h0 : (ctO J o σ)[P]? = some (a, e0)) (hs : (ctO J o σ).set P (a, e1) = ctO J o σ') (hat : va_at D vwC (a, e1) H1) (hq : ∀ q : Nat, q ≠ a → H1[q]? = H[q]?) (h1 : cw σ' = cw σ ∧ cl σ' = cl σ) : PC D J o Ld σ' H1 := by
  obtain ⟨d, hd, ea⟩ := ctO_at P _ h0
  have hin := oOf_in P d hd
  refine ⟨fun i hi => ?_, ?_, fun i hi => by rw [h1.2]; exact h.2.2 i hi⟩
  · rw [h1.1, h1.2]
    refine (h.1 i hi).kept (fun n q hn => hq q.1 (fun e => ?_))
    have a1 := ctW_at n q hn
    have a2 := hin.2.2 i hi
    simp only [wA] at a1
    have ea2 : a = o + d := ea
    omega
  · rw [← hs]
    have hl := (List.getElem?_eq_some_iff.mp h0).1
    intro k q hk
    by_cases hkp : k = P
    · subst hkp
      rw [List.getElem?_set_self hl] at hk
      cases hk
      exact hat
    · rw [List.getElem?_set_ne (Ne.symm hkp)] at hk
      refine (h.2.1 k q hk).kept (hq q.1 (fun e => hkp ?_))
      obtain ⟨d2, hd2, ea2⟩ := ctO_at k q hk
      have ea3 : a = o + d := ea
      have : d2 = d := by omega
      subst this
      exact oOf_inj k P d2 hd2 hd
/-- nothing of it has changed -/
theorem PC.kept {D : va_G} {J : Nat → ClassId} {o : Nat} {Ld : Nat → Prop} {σ : Cs} {H H1 : Heap} (h : PC D J o Ld σ H) (hq : ∀ q : Nat, q < H.size → rC o q → H1[q]? = H[q]?) : PC D J o Ld σ H1 := by
  refine ⟨fun i hi => (h.1 i hi).kept (fun n q hn => hq q.1 (h.1 i hi n q hn).lt ?_), h.2.1.kept (fun n q hn => hq q.1 (h.2.1 n q hn).lt ?_), h.2.2⟩
  · have a1 := ctW_at n q hn
    have a2 := wOf_in i hi
    simp only [wA] at a1
    exact ⟨by omega, by omega, by omega⟩
  · obtain ⟨d, hd, e1⟩ := ctO_at n q hn
    have a2 := oOf_in n d hd
    exact ⟨by omega, by omega, by omega⟩
