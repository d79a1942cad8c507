/-! LINKS BETWEEN NEST MATES, by their places -/
def nestF : List (String × Nat × String × String × String × String) := [("LateInks", 249, "LateInks$World", "texts", "I", "LateInks"), ("LateInks", 106, "LateInks$World", "parties", "I", "LateInks"), ("LateInks$Jars", 51, "LateInks$World", "inks", "I", "LateInks"), ("LateInks", 116, "LateInks$World", "inks", "I", "LateInks"), ("LateInks$Readings", 25, "LateInks$World", "deeds", "I", "LateInks"), ("LateInks", 139, "LateInks$World", "deeds", "I", "LateInks"), ("LateInks", 209, "LateInks$World", "time", "I", "LateInks"), ("LateInks", 205, "LateInks$World", "salt", "I", "LateInks"), ("LateInks", 207, "LateInks$World", "spray", "I", "LateInks"), ("LateInks", 658, "LateInks$World", "logged", "I", "LateInks"), ("LateInks", 652, "LateInks$World", "seed", "I", "LateInks"), ("LateInks", 203, "LateInks$World", "damp", "[I", "LateInks"), ("LateInks", 109, "LateInks$World", "coins", "[I", "LateInks"), ("LateInks", 119, "LateInks$World", "age", "[I", "LateInks"), ("LateInks$Jars", 60, "LateInks$World", "keeps", "[I", "LateInks"), ("LateInks", 127, "LateInks$World", "keeps", "[I", "LateInks"), ("LateInks", 135, "LateInks$World", "soaks", "[I", "LateInks"), ("LateInks", 112, "LateInks$World", "broke", "[Z", "LateInks"), ("LateInks$Readings", 29, "LateInks$World", "paid", "[Z", "LateInks"), ("LateInks", 520, "LateInks$World", "paid", "[Z", "LateInks"), ("LateInks", 368, "LateInks$World", "ink", "[I", "LateInks"), ("LateInks$Readings", 44, "LateInks$World", "debtor", "[I", "LateInks"), ("LateInks", 509, "LateInks$World", "debtor", "[I", "LateInks"), ("LateInks$Readings", 37, "LateInks$World", "creditor", "[I", "LateInks"), ("LateInks", 512, "LateInks$World", "creditor", "[I", "LateInks"), ("LateInks$Readings", 41, "LateInks$World", "sum", "[I", "LateInks"), ("LateInks", 372, "LateInks$World", "sum", "[I", "LateInks"), ("LateInks", 515, "LateInks$World", "term", "[I", "LateInks"), ("LateInks", 160, "LateInks$World", "leans", "[I", "LateInks"), ("LateInks", 163, "LateInks$World", "barred", "[I", "LateInks"), ("LateInks", 517, "LateInks$World", "written", "[I", "LateInks"), ("LateInks", 376, "LateInks$World", "ripe", "[I", "LateInks"), ("LateInks", 500, "LateInks$World", "up", "[I", "LateInks"), ("LateInks", 427, "LateInks$World", "state", "[I", "LateInks"), ("LateInks", 655, "LateInks$World", "log", "[I", "LateInks"), ("LateInks", 362, "LateInks$World", "law", "LLateInks$Law;", "LateInks"), ("LateInks$Jars", 39, "LateInks$Reader", "tape", "[B", "LateInks"), ("LateInks$Jars", 31, "LateInks$Reader", "end", "I", "LateInks"), ("LateInks", 228, "LateInks$Reader", "begin", "I", "LateInks"), ("LateInks", 80, "LateInks$Reader", "fault", "I", "LateInks"), ("LateInks", 366, "LateInks$Scene", "deed", "I", "LateInks"), ("LateInks", 370, "LateInks$Scene", "ink", "I", "LateInks"), ("LateInks", 374, "LateInks$Scene", "sum", "I", "LateInks"), ("LateInks", 379, "LateInks$Scene", "ripe", "I", "LateInks"), ("LateInks", 384, "LateInks$Scene", "season", "I", "LateInks"), ("LateInks", 386, "LateInks$Scene", "damp", "I", "LateInks"), ("LateInks", 388, "LateInks$Scene", "salt", "I", "LateInks"), ("LateInks$Tag", 13, "LateInks$Scene", "leaning", "Z", "LateInks"), ("LateInks", 389, "LateInks$Scene", "leaning", "Z", "LateInks"), ("LateInks$Tag", 16, "LateInks$Scene", "barred", "Z", "LateInks"), ("LateInks", 392, "LateInks$Scene", "barred", "Z", "LateInks"), ("LateInks", 482, "LateInks$Readings", "least", "I", "LateInks"), ("LateInks", 485, "LateInks$Readings", "most", "I", "LateInks"), ("LateInks", 488, "LateInks$Readings", "by", "I", "LateInks"), ("LateInks$Readings", 15, "LateInks", "world", "LLateInks$World;", "LateInks"), ("LateInks$Jars", 47, "LateInks", "world", "LLateInks$World;", "LateInks"), ("LateInks$Jars", 22, "LateInks", "reader", "LLateInks$Reader;", "LateInks"), ("LateInks", 348, "LateInks$Law", "lines", "Ljava/util/ArrayList;", "LateInks"), ("LateInks", 323, "LateInks$Row", "row", "Ljava/util/ArrayList;", "LateInks"), ("LateInks", 275, "LateInks$Sum", "parts", "Ljava/util/ArrayList;", "LateInks"), ("LateInks$Law", 26, "LateInks$Line", "kind", "LLateInks$Kind;", "LateInks"), ("LateInks$Law", 34, "LateInks$Line", "n", "I", "LateInks")]
def nestM : List (String × Nat × MethodName × String) := [("LateInks", 24, ⟨"LateInks$Reader", "<init>", "()V"⟩, "LateInks"), ("LateInks", 31, ⟨"LateInks$Scene", "<init>", "()V"⟩, "LateInks"), ("LateInks", 41, ⟨"LateInks$Readings", "<init>", "(LLateInks;)V"⟩, "LateInks"), ("LateInks", 57, ⟨"LateInks$Jars", "<init>", "(LLateInks;)V"⟩, "LateInks"), ("LateInks$World", 119, ⟨"LateInks", "has", "(II)Z"⟩, "LateInks"), ("LateInks$Reader", 41, ⟨"LateInks", "in", "(III)Z"⟩, "LateInks"), ("LateInks", 347, ⟨"LateInks$Law", "<init>", "()V"⟩, "LateInks"), ("LateInks", 274, ⟨"LateInks$Sum", "<init>", "()V"⟩, "LateInks"), ("LateInks$Jars", 35, ⟨"LateInks", "demand", "(Z)V"⟩, "LateInks"), ("LateInks$Jars", 43, ⟨"LateInks", "in", "(III)Z"⟩, "LateInks"), ("LateInks$Jars", 56, ⟨"LateInks", "readFrom", "(II)I"⟩, "LateInks")]
/-! THE COMPONENT'S CLASSES, the arrays' classes, what holds of the tables and of the old cells all through a run -/
abbrev vwC : List vw_C := [(RX1, TX1, 13), (RX2, TX2, 29), (RX3, TX3, 7), (RX4, TX4, 9), (RX5, TX5, 5), (RX6, TX6, 3), (RJ3, TJ3, 3), (RX9, TX9, 1), (RX11, TX11, 3), (RX12, TX12, 2), (RX13, TX13, 1), (RX14, TX14, 1), (RX15, TX15, 1), (RX16, TX16, 2), (RX18, TX18, 2), (RJ5, TJ5, 4), (RJ6, TJ6, 4)]
abbrev tysC (J : Nat → ClassId) : List (ClassId × FieldType) := [(J 0, .int), (J 1, .boolean), (J 2, .byte), (J 3, .long), (J 4, .object "java/lang/Object")]
/-- links between nest mates: they don't ride in the lists -/
def NestE (U : State) : Prop := (∀ (k : Nat) (q : String × Nat × String × String × String × String), nestF[k]? = some q → va_Nw (.fieldLinkNest q.1 q.2.1 q.2.2.1 q.2.2.2.1 q.2.2.2.2.1 q.2.2.2.2.2) U) ∧ ∀ (k : Nat) (q : String × Nat × MethodName × String), nestM[k]? = some q → va_Nw (.methodLinkNest q.1 q.2.1 q.2.2.1 q.2.2.2) U
theorem NestE.go {s U : State} (h : NestE s) (hW : s.WarmedH U.vm) : NestE U := ⟨fun k q hk => va_Nw.warmF hW (h.1 k q hk), fun k q hk => va_Nw.warmM hW (h.2 k q hk)⟩
theorem NestE.f {s : State} (h : NestE s) (k : Nat) {a : String} {i : Nat} {b n d x : String} (hk : nestF[k]? = some (a, i, b, n, d, x)) {args : Array Value} : (Cond.fieldLinkNest a i b n d x).before args s = true := va_Nw.use rfl (h.1 k _ hk)
theorem NestE.m {s : State} (h : NestE s) (k : Nat) {a : String} {i : Nat} {y : MethodName} {x : String} (hk : nestM[k]? = some (a, i, y, x)) : va_Nw (.methodLinkNest a i y x) s := h.2 k _ hk
def EC (D : va_G) (J : Nat → ClassId) (z : Nat) (aK aV : Nat → Nat) (U : State) : Prop := va_K D vwC (tysC J) U ∧ StrE z aK aV U ∧ NestE U
theorem EC.go {D : va_G} {J : Nat → ClassId} {z : Nat} {aK aV : Nat → Nat} {s U : State} (h : EC D J z aK aV s) (hW : s.WarmedH U.vm) (hq : ∀ q : Nat, q < s.heap.size → ¬ z ≤ q → U.heap[q]? = s.heap[q]?) : EC D J z aK aV U := ⟨va_K.moved hW.alike h.1, h.2.1.go hW hq, h.2.2.go hW⟩
/-! A WORLD: an object and nineteen arrays at o, o+1 .. o+19; its numbers as a memory: region 0 the fields by their places, region k the array of the field k; lw: the law's address -/
abbrev fsW (o : Nat) (lw : Option Nat) (τ : Mm) : List Value := [.int (τ 0 0), .int (τ 0 1), .int (τ 0 2), .int (τ 0 3), .int (τ 0 4), .int (τ 0 5), .int (τ 0 6), .int (τ 0 7), .int (τ 0 8), .ref (o + 1), .ref (o + 2), .ref (o + 3), .ref (o + 4), .ref (o + 5), .ref (o + 6), .ref (o + 7), .ref (o + 8), .ref (o + 9), .ref (o + 10), .ref (o + 11), .ref (o + 12), .ref (o + 13), .ref (o + 14), .ref (o + 15), .ref (o + 16), .ref (o + 17), .ref (o + 18), .ref (o + 19), va_rf lw]
abbrev ctW (J : Nat → ClassId) (o : Nat) (lw : Option Nat) (τ : Mm) : va_W := [(o, .inr (1, fsW o lw τ)), (o + 1, .inl (J 0, 4, .inl (τ 9))), (o + 2, .inl (J 0, 6, .inl (τ 10))), (o + 3, .inl (J 0, 6, .inl (τ 11))), (o + 4, .inl (J 0, 6, .inl (τ 12))), (o + 5, .inl (J 0, 6, .inl (τ 13))), (o + 6, .inl (J 1, 6, .inl (τ 14))), (o + 7, .inl (J 1, 8, .inl (τ 15))), (o + 8, .inl (J 0, 8, .inl (τ 16))), (o + 9, .inl (J 0, 8, .inl (τ 17))), (o + 10, .inl (J 0, 8, .inl (τ 18))), (o + 11, .inl (J 0, 8, .inl (τ 19))), (o + 12, .inl (J 0, 8, .inl (τ 20))), (o + 13, .inl (J 0, 8, .inl (τ 21))), (o + 14, .inl (J 0, 8, .inl (τ 22))), (o + 15, .inl (J 0, 8, .inl (τ 23))), (o + 16, .inl (J 0, 8, .inl (τ 24))), (o + 17, .inl (J 0, 8, .inl (τ 25))), (o + 18, .inl (J 0, 8, .inl (τ 26))), (o + 19, .inl (J 0, 240, .inl (τ 27)))]
def rW (o : Nat) : Nat → Prop := fun q => o ≤ q ∧ q ≤ o + 19
theorem ctW_at {J : Nat → ClassId} {o : Nat} {lw : Option Nat} {τ : Mm} : ∀ (i : Nat) (p : Nat × va_E), (ctW J o lw τ)[i]? = some p → p.1 = o + i ∧ i ≤ 19 := by
  intro i p h
  match i, h with
  | 0, h => cases h; exact ⟨rfl, by omega⟩
  | 1, h => cases h; exact ⟨rfl, by omega⟩
  | 2, h => cases h; exact ⟨rfl, by omega⟩
  | 3, h => cases h; exact ⟨rfl, by omega⟩
  | 4, h => cases h; exact ⟨rfl, by omega⟩
  | 5, h => cases h; exact ⟨rfl, by omega⟩
  | 6, h => cases h; exact ⟨rfl, by omega⟩
  | 7, h => cases h; exact ⟨rfl, by omega⟩
  | 8, h => cases h; exact ⟨rfl, by omega⟩
  | 9, h => cases h; exact ⟨rfl, by omega⟩
  | 10, h => cases h; exact ⟨rfl, by omega⟩
  | 11, h => cases h; exact ⟨rfl, by omega⟩
  | 12, h => cases h; exact ⟨rfl, by omega⟩
  | 13, h => cases h; exact ⟨rfl, by omega⟩
  | 14, h => cases h; exact ⟨rfl, by omega⟩
  | 15, h => cases h; exact ⟨rfl, by omega⟩
  | 16, h => cases h; exact ⟨rfl, by omega⟩
  | 17, h => cases h; exact ⟨rfl, by omega⟩
  | 18, h => cases h; exact ⟨rfl, by omega⟩
  | 19, h => cases h; exact ⟨rfl, by omega⟩
  | i + 20, h => cases h
theorem ctW_D {J : Nat → ClassId} {o : Nat} {lw : Option Nat} {τ : Mm} : va_D (rW o) (ctW J o lw τ) := by
  refine ⟨fun i j p q hi hj e => ?_, fun k q hk => ?_⟩
  · have a := ctW_at i p hi
    have b := ctW_at j q hj
    omega
  · have a := ctW_at k q hk
    exact ⟨by omega, by omega⟩
def IW (D : va_G) (J : Nat → ClassId) (o : Nat) (lw : Option Nat) (s : State) (H : Heap) (locs : List Loc) (τ : Mm) : Prop := va_P D vwC (ctW J o lw τ) H ∧ va_S (rW o) s.heap H locs

/-- a method's contract: with an int (or boolean) for answer; with none -/
def WMi (y : MethodName) (cd : ByteArray) (nL : Nat) (ret : Option FieldType) (fr lo : Nat) (As : (Nat → Nat) → List Value) (r : Int32) (τ τ' : Mm) : Prop :=
  ∀ (l : Launch) (D : va_G) (J : Nat → ClassId) (o z : Nat) (lw : Option Nat) (aK aV : Nat → Nat), z ≤ o → Met l y (ws_ y cd nL ret) ({ frames := fr, cells := 0, slots := 0, locals := lo }) (va_Pc (.ref o :: As aK) (fun U => va_P D vwC (ctW J o lw τ) U.heap ∧ EC D J z aK aV U)) (va_Qi (fun (x : Int32) (_ : Unit) => x = r) (fun _ t => va_P D vwC (ctW J o lw τ') t.heap) (rW o)) 0 0 (rW o)
def WMv (y : MethodName) (cd : ByteArray) (nL : Nat) (ret : Option FieldType) (fr lo : Nat) (As : (Nat → Nat) → List Value) (τ τ' : Mm) : Prop :=
  ∀ (l : Launch) (D : va_G) (J : Nat → ClassId) (o z : Nat) (lw : Option Nat) (aK aV : Nat → Nat), z ≤ o → Met l y (ws_ y cd nL ret) ({ frames := fr, cells := 0, slots := 0, locals := lo }) (va_Pc (.ref o :: As aK) (fun U => va_P D vwC (ctW J o lw τ) U.heap ∧ EC D J z aK aV U)) (va_Qv (fun (_ : Unit) => True) (fun _ t => va_P D vwC (ctW J o lw τ') t.heap) (rW o)) 0 0 (rW o)
section WROWS
variable {p : Program} {l : Launch} {e : Env} {R : Room} {s : State} {m : MethodId} {args : Array Value} {below : List Frame} {meth : Method} {c : Code} {H : Heap} {locs : List Loc} {cells slots : Nat} {Q : State → Prop}
variable {cc : ByteArray} {pc : Nat} {ls : Array Slot} {rest : List Value} {D : va_G} {J : Nat → ClassId} {o z : Nat} {lw : Option Nat} {aK aV : Nat → Nat} {τ τ' : Mm}
/-- reading a field -/
theorem wget (hx : p.tables.exec = Jvm.exec) (hb : c.code = cc) (hts : ∀ w ∈ lw_all, w.before args s = true) (hown : s.vm.findClass RX2 = some m.cls) (hE : EC D J z aK aV s) (hI : IW D J o lw s H locs τ) (k : Nat) {index : Nat} {v : Value} (hk : k < 29) (hl : Cond.fieldLink RX2 index (TX2 k).1 (TX2 k).2.1 (TX2 k).2.2.1 ∈ lw_all) (hv : (fsW o lw τ)[k]? = some v) (hdg : decode cc pc = .ok (.getfield index, 3))
    (kk : W p l e R s m args below meth c H locs cells slots Q (F0 m (pc + 3) ls (v :: rest))) : W p l e R s m args below meth c H locs cells slots Q (F0 m pc ls (.ref o :: rest)) :=
  va_get (C := RX2) (T := TX2) (N := 29) (ref := (TX2 k).1) hx hb hts in_X2 hown hE.1 hI.1 0 rfl rfl k hk (hts _ hl) (fun _ h => h) hv hdg kk
/-- writing a field: the memory's cell of region 10 -/
theorem wput (hx : p.tables.exec = Jvm.exec) (hb : c.code = cc) (hts : ∀ w ∈ lw_all, w.before args s = true) (hown : s.vm.findClass RX2 = some m.cls) (hE : EC D J z aK aV s) (hI : IW D J o lw s H locs τ) (k : Nat) {index : Nat} {x : Int32} {ty : FieldType} (hk : k < 29) (hl : Cond.fieldLink RX2 index (TX2 k).1 (TX2 k).2.1 (TX2 k).2.2.1 ∈ lw_all) (hfin : (TX2 k).2.2.2 = false) (hd : parseFieldDescriptor (TX2 k).2.2.1 = some ty) (hn : narrow ty (.int x) = .int x) (hfit : fits ty (.int x) = true)
    (hw : (ctW J o lw τ).set 0 (o, .inr (1, (fsW o lw τ).set k (.int x))) = ctW J o lw (mup τ 0 k x)) (hτ : some (mup τ 0 k x) = some τ') (hdg : decode cc pc = .ok (.putfield index, 3))
    (kk : ∀ (H1 : Heap) (locs1 : List Loc), IW D J o lw s H1 locs1 τ' → W p l e R s m args below meth c H1 locs1 cells slots Q (F0 m (pc + 3) ls rest)) : W p l e R s m args below meth c H locs cells slots Q (F0 m pc ls (.int x :: .ref o :: rest)) := by
  cases hτ
  exact va_put (C := RX2) (T := TX2) (N := 29) (ref := (TX2 k).1) hx hb hts in_X2 tyX2 tyX2_ok nmX2 hown hE.1 hI.1 ctW_D hI.2 0 rfl rfl k hk (hts _ hl) (fun _ h => h) hfin hd hn hfit hk hdg (fun H1 locs1 hP _ hS => kk H1 locs1 ⟨hw ▸ hP, hS⟩)
/-- reading an int array's place: q its place in the world -/
theorem wald (hx : p.tables.exec = Jvm.exec) (hb : c.code = cc) (hE : EC D J z aK aV s) (hI : IW D J o lw s H locs τ) (q n : Nat) {a : Nat} {f : Nat → Int32} {i x : Int32} (ha : (ctW J o lw τ)[q]? = some (a, .inl (J 0, n, .inl f))) (hl : ld n f i = some x) (hdg : decode cc pc = .ok (.iaload, 1))
    (kk : W p l e R s m args below meth c H locs cells slots Q (F0 m (pc + 1) ls (.int x :: rest))) : W p l e R s m args below meth c H locs cells slots Q (F0 m pc ls (.int i :: .ref a :: rest)) := by
  obtain ⟨h1, h2⟩ := ld_e hl
  subst h2
  exact va_iald hx hb hE.1 hI.1 q 0 ha rfl h1 hdg kk
/-- .. at a place that is a number -/
theorem waldc (hx : p.tables.exec = Jvm.exec) (hb : c.code = cc) (hE : EC D J z aK aV s) (hI : IW D J o lw s H locs τ) (q n j : Nat) {a : Nat} {f : Nat → Int32} {i : Int32} (ha : (ctW J o lw τ)[q]? = some (a, .inl (J 0, n, .inl f))) (hi : inb i n = true) (hj : i.toNatClampNeg = j) (hdg : decode cc pc = .ok (.iaload, 1))
    (kk : W p l e R s m args below meth c H locs cells slots Q (F0 m (pc + 1) ls (.int (f j) :: rest))) : W p l e R s m args below meth c H locs cells slots Q (F0 m pc ls (.int i :: .ref a :: rest)) := by
  subst hj
  exact va_iald hx hb hE.1 hI.1 q 0 ha rfl (inb_in hi) hdg kk
theorem wzld (hx : p.tables.exec = Jvm.exec) (hb : c.code = cc) (hE : EC D J z aK aV s) (hI : IW D J o lw s H locs τ) (q n : Nat) {a : Nat} {f : Nat → Int32} {i x : Int32} (ha : (ctW J o lw τ)[q]? = some (a, .inl (J 1, n, .inl f))) (hl : ld n f i = some x) (hdg : decode cc pc = .ok (.baload, 1))
    (kk : W p l e R s m args below meth c H locs cells slots Q (F0 m (pc + 1) ls (.int x :: rest))) : W p l e R s m args below meth c H locs cells slots Q (F0 m pc ls (.int i :: .ref a :: rest)) := by
  obtain ⟨h1, h2⟩ := ld_e hl
  subst h2
  exact va_zald hx hb hE.1 hI.1 q 1 ha rfl h1 hdg kk
/-- writing an int array's place -/
theorem wast (hx : p.tables.exec = Jvm.exec) (hb : c.code = cc) (hE : EC D J z aK aV s) (hI : IW D J o lw s H locs τ) (q n k : Nat) {a : Nat} {f : Nat → Int32} {i x : Int32} (ha : (ctW J o lw τ)[q]? = some (a, .inl (J 0, n, .inl f))) (hw : ∀ j : Nat, (ctW J o lw τ).set q (a, .inl (J 0, n, .inl (upd f j x))) = ctW J o lw (mup τ k j x)) (hl : sto n τ k i x = some τ') (hdg : decode cc pc = .ok (.iastore, 1))
    (kk : ∀ (H1 : Heap) (locs1 : List Loc), IW D J o lw s H1 locs1 τ' → W p l e R s m args below meth c H1 locs1 cells slots Q (F0 m (pc + 1) ls rest)) : W p l e R s m args below meth c H locs cells slots Q (F0 m pc ls (.int x :: .int i :: .ref a :: rest)) := by
  obtain ⟨h1, h2⟩ := sto_e hl
  subst h2
  exact va_iast hx hb hE.1 hI.1 ctW_D hI.2 q 0 ha rfl h1 hdg (fun H1 locs1 hP _ hS => kk H1 locs1 ⟨hw _ ▸ hP, hS⟩)
/-- .. a boolean array's, of 0 or 1 -/
theorem wzst (hx : p.tables.exec = Jvm.exec) (hb : c.code = cc) (hE : EC D J z aK aV s) (hI : IW D J o lw s H locs τ) (q n k : Nat) {a : Nat} {f : Nat → Int32} {i x : Int32} (ha : (ctW J o lw τ)[q]? = some (a, .inl (J 1, n, .inl f))) (hz : x = 0 ∨ x = 1) (hw : ∀ j : Nat, (ctW J o lw τ).set q (a, .inl (J 1, n, .inl (upd f j x))) = ctW J o lw (mup τ k j x)) (hl : sto n τ k i x = some τ') (hdg : decode cc pc = .ok (.bastore, 1))
    (kk : ∀ (H1 : Heap) (locs1 : List Loc), IW D J o lw s H1 locs1 τ' → W p l e R s m args below meth c H1 locs1 cells slots Q (F0 m (pc + 1) ls rest)) : W p l e R s m args below meth c H locs cells slots Q (F0 m pc ls (.int x :: .int i :: .ref a :: rest)) := by
  obtain ⟨h1, h2⟩ := sto_e hl
  subst h2
  have hx9 : vp_nar .boolean x = x := by rcases hz with h | h <;> (rw [h]; decide)
  refine va_zast hx hb hE.1 hI.1 ctW_D hI.2 q 1 ha rfl h1 hdg (fun H1 locs1 hP _ hS => ?_)
  rw [hx9] at hP
  exact kk H1 locs1 ⟨hw _ ▸ hP, hS⟩
/-- a call of a method of the reference -/
theorem wcallI (hx : p.tables.exec = Jvm.exec) (hb : c.code = cc) (hts : ∀ w ∈ lw_all, w.before args s = true) (hown : s.vm.findClass RX2 = some m.cls) (hE : EC D J z aK aV s) (hz : z ≤ o) (hI : IW D J o lw s H locs τ) {nL : Nat} (hml : c.maxLocals = nL) (hlsz : ls.size = nL)
    {y : MethodName} {cd : ByteArray} {nL' fr lo n index : Nat} {ret : Option FieldType} {As : (Nat → Nat) → List Value} {r : Int32} (hM : WMi y cd nL' ret fr lo As r τ τ') (cw : CallW R s args RX2 RX2 index y cd nL' ret (ws_ y cd nL' ret) ({ frames := fr, cells := 0, slots := 0, locals := lo }) 0 0 n)
    (hc : cells ≤ R.cells ∧ slots ≤ R.slots) (hn : (As aK).length = n) {st : List Value} (hst : st = (As aK).reverse ++ .ref o :: rest) (hW : 2 * (F0 m pc ls st).monitorRoom + (rest.map fun v => v.category).sum ≤ 8) (hdg : decode cc pc = .ok (.invokevirtual index, 3))
    (kk : ∀ (H1 : Heap) (locs1 : List Loc), IW D J o lw s H1 locs1 τ' → W p l e R s m args below meth c H1 locs1 cells slots Q (F0 m (pc + 3) ls (.int r :: rest))) : W p l e R s m args below meth c H locs cells slots Q (F0 m pc ls st) := by
  have hEq : ∀ U : State, U.heap = H → s.WarmedH U.vm → EC D J z aK aV U := fun U hU hW => hE.go hW (fun q h1 h2 => by rw [hU]; exact hI.2.2.1 q h1 (fun h3 => h2 (Nat.le_trans hz h3.1)))
  refine va_calli (va_runV (As := As aK) (rest := rest) ⟨hx, hb, hml, hown, hts⟩ (hM l D J o z lw aK aV hz) cw ⟨fun a U g mk q => ?_, va_recv hE.1 hI.1 (ci := 1) (q0 := 0) rfl rfl, fun U hU hW => ⟨rfl, by rw [hU]; exact hI.1, hEq U hU hW⟩⟩ rfl hn hlsz hst hW hdg ⟨hc.1, hc.2⟩) hI.2 (fun q _ h => h) (fun q h => h) (fun r' u t H1 locs1 ht hvm hp hB hz1 hk1 hS => ?_)
  · obtain ⟨q0, qP, qE⟩ := q
    exact ⟨q0, qP, qE.go (State.WarmedH.refl U) (fun _ _ _ => rfl)⟩
  · have hr' : r' = r := hp
    subst hr'
    exact kk H1 locs1 ⟨by rw [← ht]; exact hB, hS⟩
theorem wcallV (hx : p.tables.exec = Jvm.exec) (hb : c.code = cc) (hts : ∀ w ∈ lw_all, w.before args s = true) (hown : s.vm.findClass RX2 = some m.cls) (hE : EC D J z aK aV s) (hz : z ≤ o) (hI : IW D J o lw s H locs τ) {nL : Nat} (hml : c.maxLocals = nL) (hlsz : ls.size = nL)
    {y : MethodName} {cd : ByteArray} {nL' fr lo n index : Nat} {ret : Option FieldType} {As : (Nat → Nat) → List Value} (hM : WMv y cd nL' ret fr lo As τ τ') (cw : CallW R s args RX2 RX2 index y cd nL' ret (ws_ y cd nL' ret) ({ frames := fr, cells := 0, slots := 0, locals := lo }) 0 0 n)
    (hc : cells ≤ R.cells ∧ slots ≤ R.slots) (hn : (As aK).length = n) {st : List Value} (hst : st = (As aK).reverse ++ .ref o :: rest) (hW : 2 * (F0 m pc ls st).monitorRoom + (rest.map fun v => v.category).sum ≤ 8) (hdg : decode cc pc = .ok (.invokevirtual index, 3))
    (kk : ∀ (H1 : Heap) (locs1 : List Loc), IW D J o lw s H1 locs1 τ' → W p l e R s m args below meth c H1 locs1 cells slots Q (F0 m (pc + 3) ls rest)) : W p l e R s m args below meth c H locs cells slots Q (F0 m pc ls st) := by
  have hEq : ∀ U : State, U.heap = H → s.WarmedH U.vm → EC D J z aK aV U := fun U hU hW => hE.go hW (fun q h1 h2 => by rw [hU]; exact hI.2.2.1 q h1 (fun h3 => h2 (Nat.le_trans hz h3.1)))
  refine va_callv (va_runV (As := As aK) (rest := rest) ⟨hx, hb, hml, hown, hts⟩ (hM l D J o z lw aK aV hz) cw ⟨fun a U g mk q => ?_, va_recv hE.1 hI.1 (ci := 1) (q0 := 0) rfl rfl, fun U hU hW => ⟨rfl, by rw [hU]; exact hI.1, hEq U hU hW⟩⟩ rfl hn hlsz hst hW hdg ⟨hc.1, hc.2⟩) hI.2 (fun q _ h => h) (fun q h => h) (fun u t H1 locs1 ht hvm hp hB hz1 hk1 hS => ?_)
  · obtain ⟨q0, qP, qE⟩ := q
    exact ⟨q0, qP, qE.go (State.WarmedH.refl U) (fun _ _ _ => rfl)⟩
  · exact kk H1 locs1 ⟨by rw [← ht]; exact hB, hS⟩
theorem IW.old (hz : z ≤ o) (hI : IW D J o lw s H locs τ) : ∀ q : Nat, q < s.heap.size → ¬ z ≤ q → H[q]? = s.heap[q]? := fun q h1 h2 => hI.2.2.1 q h1 (fun h3 => h2 (Nat.le_trans hz h3.1))
/-- the ends -/
theorem wretI (hx : p.tables.exec = Jvm.exec) (hb : c.code = cc) (hr : meth.sig.returnType = some .int) (hlocks : meth.locks = false) (hI : IW D J o lw s H locs τ') {v r : Int32} (hv : v = r) (hdg : decode cc pc = .ok (.ireturn, 1)) :
    W p l e R s m args below meth c H locs 0 0 (MQ below (va_Qi (fun (x : Int32) (_ : Unit) => x = r) (fun _ t => va_P D vwC (ctW J o lw τ') t.heap) (rW o)) args s 0 0 (rW o)) (F0 m pc ls [.int v]) := by
  subst hv
  exact W.iret hx hb hr (fun t ht hW => ⟨⟨v, (), rfl, rfl, by show va_P D vwC (ctW J o lw τ') t.heap; rw [ht]; exact hI.1⟩, hI.2.F ht⟩) hI.2.2.2 hdg hlocks
theorem wretZ (hx : p.tables.exec = Jvm.exec) (hb : c.code = cc) (hr : meth.sig.returnType = some .boolean) (hlocks : meth.locks = false) (hI : IW D J o lw s H locs τ') {v r : Int32} (hv : v = r) (h01 : v = 0 ∨ v = 1) (hdg : decode cc pc = .ok (.ireturn, 1)) :
    W p l e R s m args below meth c H locs 0 0 (MQ below (va_Qi (fun (x : Int32) (_ : Unit) => x = r) (fun _ t => va_P D vwC (ctW J o lw τ') t.heap) (rW o)) args s 0 0 (rW o)) (F0 m pc ls [.int v]) := by
  subst hv
  exact W.zret hx hb hr (zb_n h01) (fun t ht hW => ⟨⟨v, (), rfl, rfl, by show va_P D vwC (ctW J o lw τ') t.heap; rw [ht]; exact hI.1⟩, hI.2.F ht⟩) hI.2.2.2 hdg hlocks
theorem wretV (hx : p.tables.exec = Jvm.exec) (hb : c.code = cc) (hr : meth.sig.returnType = none) (hlocks : meth.locks = false) (hI : IW D J o lw s H locs τ') (hdg : decode cc pc = .ok (.return_, 1)) :
    W p l e R s m args below meth c H locs 0 0 (MQ below (va_Qv (fun (_ : Unit) => True) (fun _ t => va_P D vwC (ctW J o lw τ') t.heap) (rW o)) args s 0 0 (rW o)) (F0 m pc ls []) :=
  W.vret hx hb hr (fun t ht hW => ⟨⟨(), rfl, trivial, by show va_P D vwC (ctW J o lw τ') t.heap; rw [ht]; exact hI.1⟩, hI.2.F ht⟩) hI.2.2.2 hdg hlocks
end WROWS
/-- a contract out of its body's walk; 'hret': the method's end -/
theorem WMi.of {y : MethodName} {cd : ByteArray} {nL fr lo : Nat} {As : (Nat → Nat) → List Value} {r : Int32} {τ τ' : Mm} (hy : plainName y.cls = true) (hc : y.cls = RX2) (hlen : ∀ (aK : Nat → Nat) (o : Nat), (lg_sl (.ref o :: As aK)).length ≤ nL)
    (body : ∀ (p : Program) (l : Launch) (e : Env) (s : State) (m : MethodId) (args : Array Value) (below : List Frame) (meth : Method) (c : Code) (D : va_G) (J : Nat → ClassId) (o z : Nat) (lw : Option Nat) (aK aV : Nat → Nat) (Q : State → Prop) (ls : Array Slot), z ≤ o → p.tables.exec = Jvm.exec → c.code = cd → c.maxLocals = nL → s.vm.findClass RX2 = some m.cls → (∀ w ∈ lw_all, w.before args s = true) → EC D J z aK aV s →
      (∀ (H : Heap) (locs : List Loc) (pc : Nat) (ls : Array Slot), IW D J o lw s H locs τ' → decode cd pc = .ok (.ireturn, 1) → W p l e ({ frames := fr, cells := 0, slots := 0, locals := lo } : Room) s m args below meth c H locs 0 0 Q (F0 m pc ls [.int r])) →
      IW D J o lw s s.heap [] τ → lv_has ls nL (lv_args 0 (.ref o :: As aK)) → W p l e ({ frames := fr, cells := 0, slots := 0, locals := lo } : Room) s m args below meth c s.heap [] 0 0 Q (F0 m 0 ls [])) : WMi y cd nL (some .int) fr lo As r τ τ' := by
  intro l D J o z lw aK aV hz
  refine Met.ofW (cc := cd) (maxL := nL) (ret := some .int) hy rfl ?_
  intro p e s m args below meth c s₁ B hml hv
  obtain ⟨rfl, hP, hE⟩ := hv
  have hts := atoms_spec (ws := ws_ y cd nL (some .int)) B.pre
  have hts : ∀ w ∈ lw_all, w.before _ s = true := fun w h => hts w (List.mem_cons_of_mem _ h)
  have hown : s.vm.findClass RX2 = some m.cls := by rw [← hc]; exact findClass_of_methodNamed B.named
  have hl := lv_entry (.ref o :: As aK) (n := nL) (hlen aK o)
  rw [lg_entry_eq]
  generalize (lg_sl (.ref o :: As aK) ++ List.replicate (nL - (lg_sl (.ref o :: As aK)).length) Slot.unset).toArray = ls at hl ⊢
  exact body p l e s m _ below meth c D J o z lw aK aV _ ls hz B.exec B.bytes hml hown hts hE (fun H locs pc ls hI hdg => wretI B.exec B.bytes B.returns B.notSynchronized hI rfl hdg) ⟨hP, va_S.rf⟩ hl
theorem WMz.of {y : MethodName} {cd : ByteArray} {nL fr lo : Nat} {As : (Nat → Nat) → List Value} {r : Int32} {τ τ' : Mm} (hy : plainName y.cls = true) (hc : y.cls = RX2) (hlen : ∀ (aK : Nat → Nat) (o : Nat), (lg_sl (.ref o :: As aK)).length ≤ nL)
    (body : ∀ (p : Program) (l : Launch) (e : Env) (s : State) (m : MethodId) (args : Array Value) (below : List Frame) (meth : Method) (c : Code) (D : va_G) (J : Nat → ClassId) (o z : Nat) (lw : Option Nat) (aK aV : Nat → Nat) (Q : State → Prop) (ls : Array Slot), z ≤ o → p.tables.exec = Jvm.exec → c.code = cd → c.maxLocals = nL → s.vm.findClass RX2 = some m.cls → (∀ w ∈ lw_all, w.before args s = true) → EC D J z aK aV s →
      (∀ (H : Heap) (locs : List Loc) (pc : Nat) (ls : Array Slot), IW D J o lw s H locs τ' → (r = 0 ∨ r = 1) → decode cd pc = .ok (.ireturn, 1) → W p l e ({ frames := fr, cells := 0, slots := 0, locals := lo } : Room) s m args below meth c H locs 0 0 Q (F0 m pc ls [.int r])) →
      IW D J o lw s s.heap [] τ → lv_has ls nL (lv_args 0 (.ref o :: As aK)) → W p l e ({ frames := fr, cells := 0, slots := 0, locals := lo } : Room) s m args below meth c s.heap [] 0 0 Q (F0 m 0 ls [])) : WMi y cd nL (some .boolean) fr lo As r τ τ' := by
  intro l D J o z lw aK aV hz
  refine Met.ofW (cc := cd) (maxL := nL) (ret := some .boolean) hy rfl ?_
  intro p e s m args below meth c s₁ B hml hv
  obtain ⟨rfl, hP, hE⟩ := hv
  have hts := atoms_spec (ws := ws_ y cd nL (some .boolean)) B.pre
  have hts : ∀ w ∈ lw_all, w.before _ s = true := fun w h => hts w (List.mem_cons_of_mem _ h)
  have hown : s.vm.findClass RX2 = some m.cls := by rw [← hc]; exact findClass_of_methodNamed B.named
  have hl := lv_entry (.ref o :: As aK) (n := nL) (hlen aK o)
  rw [lg_entry_eq]
  generalize (lg_sl (.ref o :: As aK) ++ List.replicate (nL - (lg_sl (.ref o :: As aK)).length) Slot.unset).toArray = ls at hl ⊢
  exact body p l e s m _ below meth c D J o z lw aK aV _ ls hz B.exec B.bytes hml hown hts hE (fun H locs pc ls hI h01 hdg => wretZ B.exec B.bytes B.returns B.notSynchronized hI rfl h01 hdg) ⟨hP, va_S.rf⟩ hl
theorem WMv.of {y : MethodName} {cd : ByteArray} {nL fr lo : Nat} {As : (Nat → Nat) → List Value} {τ τ' : Mm} (hy : plainName y.cls = true) (hc : y.cls = RX2) (hlen : ∀ (aK : Nat → Nat) (o : Nat), (lg_sl (.ref o :: As aK)).length ≤ nL)
    (body : ∀ (p : Program) (l : Launch) (e : Env) (s : State) (m : MethodId) (args : Array Value) (below : List Frame) (meth : Method) (c : Code) (D : va_G) (J : Nat → ClassId) (o z : Nat) (lw : Option Nat) (aK aV : Nat → Nat) (Q : State → Prop) (ls : Array Slot), z ≤ o → p.tables.exec = Jvm.exec → c.code = cd → c.maxLocals = nL → s.vm.findClass RX2 = some m.cls → (∀ w ∈ lw_all, w.before args s = true) → EC D J z aK aV s →
      (∀ (H : Heap) (locs : List Loc) (pc : Nat) (ls : Array Slot), IW D J o lw s H locs τ' → decode cd pc = .ok (.return_, 1) → W p l e ({ frames := fr, cells := 0, slots := 0, locals := lo } : Room) s m args below meth c H locs 0 0 Q (F0 m pc ls [])) →
      IW D J o lw s s.heap [] τ → lv_has ls nL (lv_args 0 (.ref o :: As aK)) → W p l e ({ frames := fr, cells := 0, slots := 0, locals := lo } : Room) s m args below meth c s.heap [] 0 0 Q (F0 m 0 ls [])) : WMv y cd nL none fr lo As τ τ' := by
  intro l D J o z lw aK aV hz
  refine Met.ofW (cc := cd) (maxL := nL) (ret := none) hy rfl ?_
  intro p e s m args below meth c s₁ B hml hv
  obtain ⟨rfl, hP, hE⟩ := hv
  have hts := atoms_spec (ws := ws_ y cd nL none) B.pre
  have hts : ∀ w ∈ lw_all, w.before _ s = true := fun w h => hts w (List.mem_cons_of_mem _ h)
  have hown : s.vm.findClass RX2 = some m.cls := by rw [← hc]; exact findClass_of_methodNamed B.named
  have hl := lv_entry (.ref o :: As aK) (n := nL) (hlen aK o)
  rw [lg_entry_eq]
  generalize (lg_sl (.ref o :: As aK) ++ List.replicate (nL - (lg_sl (.ref o :: As aK)).length) Slot.unset).toArray = ls at hl ⊢
  exact body p l e s m _ below meth c D J o z lw aK aV _ ls hz B.exec B.bytes hml hown hts hE (fun H locs pc ls hI hdg => wretV B.exec B.bytes B.returns B.notSynchronized hI hdg) ⟨hP, va_S.rf⟩ hl

section WROWS2
variable {p : Program} {l : Launch} {e : Env} {R : Room} {s : State} {m : MethodId} {args : Array Value} {below : List Frame} {meth : Method} {c : Code} {H : Heap} {locs : List Loc} {cells slots : Nat} {Q : State → Prop}
variable {cc : ByteArray} {pc : Nat} {ls : Array Slot} {rest : List Value} {D : va_G} {J : Nat → ClassId} {o z : Nat} {lw : Option Nat} {aK aV : Nat → Nat} {τ τ' : Mm}
/-- System.arraycopy within a world, of an int array -/
theorem wcopy (hx : p.tables.exec = Jvm.exec) (hb : c.code = cc) (hml : c.maxLocals = ls.size) (hts : ∀ w ∈ lw_all, w.before args s = true) {own : String} (hown : s.vm.findClass own = some m.cls) (hE : EC D J z aK aV s) (hI : IW D J o lw s H locs τ) (q0 q1 n0 n1 k : Nat) {index a0 a1 : Nat} {f g h : Nat → Int32} {sp dp n : Int32} (hlk : Cond.methodLink own index arraycopyName ∈ lw_all) (ha0 : (ctW J o lw τ)[q0]? = some (a0, .inl (J 0, n0, .inl f))) (ha1 : (ctW J o lw τ)[q1]? = some (a1, .inl (J 0, n1, .inl g)))
    (hw : ∀ h : Nat → Int32, (ctW J o lw τ).set q1 (a1, .inl (J 0, n1, .inl h)) = ctW J o lw (mset τ k h)) (hc : acp n0 n1 f g sp dp n = some h) (hm : some (mset τ k h) = some τ') (hframes : 1 ≤ R.frames) (hlocals : (rest.map fun v => v.category).sum + (nativeFrameWords "java/lang/System" "arraycopy" 5 + 11) ≤ R.locals) (hdg : decode cc pc = .ok (.invokestatic index, 3))
    (kk : ∀ (H1 : Heap) (locs1 : List Loc), IW D J o lw s H1 locs1 τ' → W p l e R s m args below meth c H1 locs1 cells slots Q (F0 m (pc + 3) ls rest)) : W p l e R s m args below meth c H locs cells slots Q (F0 m pc ls (.int n :: .int dp :: .ref a1 :: .int sp :: .ref a0 :: rest)) := by
  obtain ⟨⟨h1, h2, h3, h4, h5⟩, e1⟩ := acp_e hc
  subst e1
  cases hm
  exact va_copyi hx hb hml hown (hts _ hlk) (hts _ q570) (hts _ q569) (hts _ q144) hE.1 hI.1 ctW_D hI.2 q0 q1 0 0 ha0 ha1 rfl rfl rfl h1 h2 h3 h4 h5 (fun _ _ => rfl) hframes hlocals hdg (fun H1 locs1 hP _ hS => kk H1 locs1 ⟨hw _ ▸ hP, hS⟩)
/-- a static method of a nest mate -/
theorem tcallSN (hx : p.tables.exec = Jvm.exec) (hb : c.code = cc) (hts : ∀ w ∈ lw_all, w.before args s = true) {own host : String} (hown : s.vm.findClass own = some m.cls) {nL : Nat} (hml : c.maxLocals = nL) (hlsz : ls.size = nL)
    {y : MethodName} {cd : ByteArray} {nL' fr lo n index : Nat} {ret : Option FieldType} {As : List Value} {r : Int32} (hM : SMi y cd nL' ret fr lo As r) (cw : va_CN R s args own index y host cd nL' ret (ws_ y cd nL' ret) ({ frames := fr, cells := 0, slots := 0, locals := lo }) 0 0 n ∧ (Cond.static y).before args s = true ∧ True)
    (hc : cells ≤ R.cells ∧ slots ≤ R.slots) (hn : As.length = n) {st : List Value} (hst : st = As.reverse ++ rest) (hW : 2 * (F0 m pc ls st).monitorRoom + (rest.map fun v => v.category).sum ≤ 8) (hdg : decode cc pc = .ok (.invokestatic index, 3))
    (kk : W p l e R s m args below meth c H locs cells slots Q (F0 m (pc + 3) ls (.int r :: rest))) : W p l e R s m args below meth c H locs cells slots Q (F0 m pc ls st) := by
  intro T hT X
  obtain ⟨v, st₀, t, T', L, h0, X', hL, e1, e2, ⟨r', hv, hp, hh⟩, stp⟩ := va_runSN (As := As) (rest := rest) ⟨hx, hb, hml, hown, hts⟩ (hM l) cw ⟨fun a U g mk q => ⟨q.1, trivial⟩, fun U hU hW => ⟨rfl, trivial⟩⟩ rfl hn hlsz hst hW hdg ⟨hc.1, hc.2⟩ T hT X
  have hL0 : L = [] := noloc hL
  subst hL0
  cases hv
  have hr' : r' = r := hp
  subst hr'
  rw [List.append_nil] at X'
  obtain ⟨t2, a1, b1⟩ := kk T' (by rw [e1, hh, h0]) X'
  exact ⟨t2, stp t2 a1, b1⟩
end WROWS2

def X1_has (a0 : Int32) (a1 : Int32) : Option (Int32) :=
  if ((a0 >>> (a1 &&& (31 : Int32))) &&& (1 : Int32)) = (1 : Int32) then
    some (1 : Int32)
  else
    some (0 : Int32)
set_option maxHeartbeats 4000000 in
theorem mX1_has (a0 : Int32) (a1 : Int32) (r : Int32) (hf : X1_has a0 a1 = some r) : SMi yX1_has cX1_has 2 (some .boolean) 1 40 [.int a0, .int a1] r := by
  refine SMz.of (by decide) (Nat.le_of_ble_eq_true rfl) ?_
  intro p l e s m args below meth c Q ls hx hb hml hown hts hret hl
  have hl : lv_has ls 2 [(0, .int a0), (1, .int a1)] := hl
  unfold X1_has at hf
  refine lv_iload_n hx hb dX1_has_0 rfl (lv_at hl 0 rfl) ?_
  refine lv_iload_n hx hb dX1_has_1 rfl (lv_at hl 1 rfl) ?_
  refine lv_ishr hx hb dX1_has_2 ?_
  refine lv_iconst (v := (1 : Int32)) hx hb dX1_has_3 (by decide) ?_
  refine lv_iand hx hb dX1_has_4 ?_
  refine lv_iconst (v := (1 : Int32)) hx hb dX1_has_5 (by decide) ?_
  refine lv_icmp_ne (tgt := 13) hx hb dX1_has_6 (by decide) (fun hc => ?_) (fun hc => ?_)
  · replace hf := ineg hc hf
    refine lv_iconst (v := (0 : Int32)) hx hb dX1_has_13 (by decide) ?_
    have hf := Option.some.inj hf
    rw [hf]
    exact hret 14 ls (hf ▸ (by decide)) dX1_has_14
  · replace hf := ipos hc hf
    refine lv_iconst (v := (1 : Int32)) hx hb dX1_has_9 (by decide) ?_
    refine lv_goto (tgt := 14) hx hb dX1_has_10 (by decide) ?_
    have hf := Option.some.inj hf
    rw [hf]
    exact hret 14 ls (hf ▸ (by decide)) dX1_has_14
theorem cwX1_has {R : Room} {s : State} {args : Array Value} {fr lo : Nat} (hts : ∀ w ∈ lw_all, w.before args s = true) (hR : fr + 1 ≤ R.frames ∧ 8 + (2 + 11) + lo ≤ R.locals) : CallB R s args RX1 573 yX1_has cX1_has 2 (some .boolean) (ws_ yX1_has cX1_has 2 (some .boolean)) ({ frames := fr, cells := 0, slots := 0, locals := lo }) 0 0 2 ∧ (Cond.static yX1_has).before args s = true :=
  va_cwS 2 hts (lw_S q736 q551 q133 q552) rfl rfl rfl (by decide +kernel) hR

def X1_in (a0 : Int32) (a1 : Int32) (a2 : Int32) : Option (Int32) :=
  if a0 < a1 then
    some (0 : Int32)
  else
    if a2 < a0 then
      some (0 : Int32)
    else
      some (1 : Int32)
set_option maxHeartbeats 4000000 in
theorem mX1_in (a0 : Int32) (a1 : Int32) (a2 : Int32) (r : Int32) (hf : X1_in a0 a1 a2 = some r) : SMi yX1_in cX1_in 3 (some .boolean) 1 40 [.int a0, .int a1, .int a2] r := by
  refine SMz.of (by decide) (Nat.le_of_ble_eq_true rfl) ?_
  intro p l e s m args below meth c Q ls hx hb hml hown hts hret hl
  have hl : lv_has ls 3 [(0, .int a0), (1, .int a1), (2, .int a2)] := hl
  unfold X1_in at hf
  refine lv_iload_n hx hb dX1_in_0 rfl (lv_at hl 0 rfl) ?_
  refine lv_iload_n hx hb dX1_in_1 rfl (lv_at hl 1 rfl) ?_
  refine lv_icmp_lt (tgt := 14) hx hb dX1_in_2 (by decide) (fun hc => ?_) (fun hc => ?_)
  · replace hf := ipos hc hf
    refine lv_iconst (v := (0 : Int32)) hx hb dX1_in_14 (by decide) ?_
    have hf := Option.some.inj hf
    rw [hf]
    exact hret 15 ls (hf ▸ (by decide)) dX1_in_15
  · replace hf := ineg hc hf
    refine lv_iload_n hx hb dX1_in_5 rfl (lv_at hl 0 rfl) ?_
    refine lv_iload_n hx hb dX1_in_6 rfl (lv_at hl 2 rfl) ?_
    refine lv_icmp_gt (tgt := 14) hx hb dX1_in_7 (by decide) (fun hc => ?_) (fun hc => ?_)
    · replace hf := ipos hc hf
      refine lv_iconst (v := (0 : Int32)) hx hb dX1_in_14 (by decide) ?_
      have hf := Option.some.inj hf
      rw [hf]
      exact hret 15 ls (hf ▸ (by decide)) dX1_in_15
    · replace hf := ineg hc hf
      refine lv_iconst (v := (1 : Int32)) hx hb dX1_in_10 (by decide) ?_
      refine lv_goto (tgt := 15) hx hb dX1_in_11 (by decide) ?_
      have hf := Option.some.inj hf
      rw [hf]
      exact hret 15 ls (hf ▸ (by decide)) dX1_in_15
theorem cwX1_in {R : Room} {s : State} {args : Array Value} {fr lo : Nat} (hts : ∀ w ∈ lw_all, w.before args s = true) (hR : fr + 1 ≤ R.frames ∧ 8 + (3 + 11) + lo ≤ R.locals) : CallB R s args RX1 447 yX1_in cX1_in 3 (some .boolean) (ws_ yX1_in cX1_in 3 (some .boolean)) ({ frames := fr, cells := 0, slots := 0, locals := lo }) 0 0 3 ∧ (Cond.static yX1_in).before args s = true :=
  va_cwS 3 hts (lw_S q1676 q867 q133 q868) rfl rfl rfl (by decide +kernel) hR

theorem cnX1_has_X2 {R : Room} {s : State} {args : Array Value} {fr lo : Nat} (hts : ∀ w ∈ lw_all, w.before args s = true) (hN : NestE s) (hR : fr + 1 ≤ R.frames ∧ 8 + (2 + 11) + lo ≤ R.locals) : va_CN R s args RX2 119 yX1_has "LateInks" cX1_has 2 (some .boolean) (ws_ yX1_has cX1_has 2 (some .boolean)) ({ frames := fr, cells := 0, slots := 0, locals := lo }) 0 0 2 ∧ (Cond.static yX1_has).before args s = true ∧ True :=
  ⟨va_cnB 2 hts (lw_meth q552) rfl rfl rfl (hN.m 4 rfl) (hts _ q133) (by decide +kernel) hR, hts _ q551, trivial⟩
def X2_draw (τ : Mm) (a1 : Int32) : Option (Int32 × Mm) :=
  (some (mup τ 0 8 (((1103515245 : Int32) * (τ 0 8)) + (12345 : Int32)))).bind fun t12 =>
  (dnz a1).bind fun _ =>
  some (((((t12 0 8).toUInt32 >>> ((16 : Int32).toUInt32 &&& Int32.toUInt32 31)).toInt32 &&& (32767 : Int32)) - (((t12 0 8).toUInt32 >>> ((16 : Int32).toUInt32 &&& Int32.toUInt32 31)).toInt32 &&& (32767 : Int32)) / a1 * a1), t12)
set_option maxHeartbeats 4000000 in
theorem mX2_draw (τ : Mm) (a1 : Int32) (r : Int32) (τ' : Mm) (hf : X2_draw τ a1 = some (r, τ')) : WMi yX2_draw cX2_draw 2 (some .int) 1 40 (fun aK => [.int a1]) r τ τ' := by
  refine WMi.of (by decide) rfl (fun _ _ => Nat.le_of_ble_eq_true rfl) ?_
  intro p l e s m args below meth c D J o z lw aK aV Q ls hz hx hb hml hown hts hE hret hI hl
  obtain ⟨H, eH⟩ : ∃ H, H = s.heap := ⟨_, rfl⟩
  obtain ⟨locs, eL⟩ : ∃ L : List Loc, L = [] := ⟨_, rfl⟩
  rw [← eH, ← eL] at hI ⊢
  have hl : lv_has ls 2 [(0, .ref o), (1, .int a1)] := hl
  unfold X2_draw at hf
  refine lv_aload_n hx hb dX2_draw_0 rfl (lv_at hl 0 rfl) ?_
  refine lv_ldc hx hb hown (hts _ q1792) dX2_draw_1 ?_
  refine lv_aload_n hx hb dX2_draw_3 rfl (lv_at hl 0 rfl) ?_
  refine wget hx hb hts hown hE hI 8 (by decide) q212 rfl dX2_draw_4 ?_
  refine lv_imul hx hb dX2_draw_7 ?_
  refine lv_sipush (v := (12345 : Int32)) hx hb dX2_draw_8 (by decide) ?_
  refine lv_iadd hx hb dX2_draw_11 ?_
  obtain ⟨t12, et12, hf⟩ := obd hf
  refine wput hx hb hts hown hE hI 8 (by decide) q212 rfl (tyX2_ok 8 (by decide)) rfl rfl rfl et12 dX2_draw_12 (fun H locs hI => ?_)
  refine lv_aload_n hx hb dX2_draw_15 rfl (lv_at hl 0 rfl) ?_
  refine wget hx hb hts hown hE hI 8 (by decide) q212 rfl dX2_draw_16 ?_
  refine lv_bipush (v := (16 : Int32)) hx hb dX2_draw_19 (by decide) ?_
  refine lv_iushr (v := ((t12 0 8).toUInt32 >>> ((16 : Int32).toUInt32 &&& Int32.toUInt32 31)).toInt32) hx hb dX2_draw_21 rfl ?_
  refine lv_sipush (v := (32767 : Int32)) hx hb dX2_draw_22 (by decide) ?_
  refine lv_iand hx hb dX2_draw_25 ?_
  refine lv_iload_n hx hb dX2_draw_26 rfl (lv_at hl 1 rfl) ?_
  obtain ⟨_, en27, hf⟩ := obd hf
  refine lv_irem hx hb dX2_draw_27 (dnz_e en27).2 ?_
  have hf := Prod.mk.inj (Option.some.inj hf)
  rw [hf.1]
  exact hret H locs 28 ls (hf.2 ▸ hI) dX2_draw_28


def X2_season (τ : Mm) : Option (Int32) :=
  some ((τ 0 4) - (τ 0 4) / (4 : Int32) * (4 : Int32))
set_option maxHeartbeats 4000000 in
theorem mX2_season (τ : Mm) (r : Int32) (hf : X2_season τ = some r) : WMi yX2_season cX2_season 1 (some .int) 1 40 (fun aK => []) r τ τ := by
  refine WMi.of (by decide) rfl (fun _ _ => Nat.le_of_ble_eq_true rfl) ?_
  intro p l e s m args below meth c D J o z lw aK aV Q ls hz hx hb hml hown hts hE hret hI hl
  obtain ⟨H, eH⟩ : ∃ H, H = s.heap := ⟨_, rfl⟩
  obtain ⟨locs, eL⟩ : ∃ L : List Loc, L = [] := ⟨_, rfl⟩
  rw [← eH, ← eL] at hI ⊢
  have hl : lv_has ls 1 [(0, .ref o)] := hl
  unfold X2_season at hf
  refine lv_aload_n hx hb dX2_season_0 rfl (lv_at hl 0 rfl) ?_
  refine wget hx hb hts hown hE hI 4 (by decide) q204 rfl dX2_season_1 ?_
  refine lv_iconst (v := (4 : Int32)) hx hb dX2_season_4 (by decide) ?_
  refine lv_irem hx hb dX2_season_5 (by decide) ?_
  have hf := Option.some.inj hf
  rw [hf]
  exact hret H locs 6 ls hI dX2_season_6


def X2_of_L4 (τ : Mm) (c1 : Int32) (w4 : Int32 × Int32) : Option ((Int32 × Int32) ⊕ (Int32)) :=
  if (τ 0 3) ≤ w4.2 then
    some (.inr w4.1)
  else
    (ld 8 (τ 26) w4.2).bind fun x18 =>
    if x18 = c1 then
      (some (w4.1 ||| ((1 : Int32) <<< (w4.2 &&& (31 : Int32))))).bind fun v31_4 =>
      (some (w4.2 + (1 : Int32))).bind fun v32_5 =>
      some (.inl (v31_4, v32_5))
    else
      (some (w4.1 ||| (0 : Int32))).bind fun v31 =>
      (some (w4.2 + (1 : Int32))).bind fun v32 =>
      some (.inl (v31, v32))
def X2_of (τ : Mm) (a1 : Int32) : Option (Int32) :=
  (loopO (X2_of_L4 τ a1) FU ((0 : Int32), (0 : Int32))).bind fun e4 =>
  some e4
set_option maxHeartbeats 4000000 in
theorem mX2_of (τ : Mm) (a1 : Int32) (r : Int32) (hf : X2_of τ a1 = some r) : WMi yX2_of cX2_of 4 (some .int) 1 40 (fun aK => [.int a1]) r τ τ := by
  refine WMi.of (by decide) rfl (fun _ _ => Nat.le_of_ble_eq_true rfl) ?_
  intro p l e s m args below meth c D J o z lw aK aV Q ls hz hx hb hml hown hts hE hret hI hl
  obtain ⟨H, eH⟩ : ∃ H, H = s.heap := ⟨_, rfl⟩
  obtain ⟨locs, eL⟩ : ∃ L : List Loc, L = [] := ⟨_, rfl⟩
  rw [← eH, ← eL] at hI ⊢
  have hl : lv_has ls 4 [(0, .ref o), (1, .int a1)] := hl
  unfold X2_of at hf
  refine lv_iconst (v := (0 : Int32)) hx hb dX2_of_0 (by decide) ?_
  refine lv_istore_n (lv' := [(2, .int (0 : Int32)), (0, .ref o), (1, .int a1)]) hx hb dX2_of_1 rfl hl (by decide) rfl (fun ls hl => ?_)
  refine lv_iconst (v := (0 : Int32)) hx hb dX2_of_2 (by decide) ?_
  refine lv_istore_n (lv' := [(3, .int (0 : Int32)), (2, .int (0 : Int32)), (0, .ref o), (1, .int a1)]) hx hb dX2_of_3 rfl hl (by decide) rfl (fun ls hl => ?_)
  obtain ⟨e4, he4, hf⟩ := obd hf
  have hs4 : ∀ (c1 : Int32), ∀ (w4 : Int32 × Int32) (o4 : (Int32 × Int32) ⊕ (Int32)), X2_of_L4 τ c1 w4 = some o4 → (∀ wx_, o4 = .inl wx_ → ∀ (H : Heap) (locs : List Loc) (ls : Array Slot), IW D J o lw s H locs τ → lv_has ls 4 [(0, .ref o), (1, .int c1), (2, .int wx_.1), (3, .int wx_.2)] → W p l e ({ frames := 1, cells := 0, slots := 0, locals := 40 } : Room) s m args below meth c H locs 0 0 Q (F0 m 4 ls [])) → (∀ ex_, o4 = .inr ex_ → ∀ (H : Heap) (locs : List Loc) (ls : Array Slot), IW D J o lw s H locs τ → lv_has ls 4 [(2, .int ex_)] → W p l e ({ frames := 1, cells := 0, slots := 0, locals := 40 } : Room) s m args below meth c H locs 0 0 Q (F0 m 38 ls [])) → ∀ (H : Heap) (locs : List Loc) (ls : Array Slot), IW D J o lw s H locs τ → lv_has ls 4 [(0, .ref o), (1, .int c1), (2, .int w4.1), (3, .int w4.2)] → W p l e ({ frames := 1, cells := 0, slots := 0, locals := 40 } : Room) s m args below meth c H locs 0 0 Q (F0 m 4 ls []) := by
    intro c1 w4 o4 hf hk hq H locs ls hI hl
    unfold X2_of_L4 at hf
    refine lv_iload_n hx hb dX2_of_4 rfl (lv_at hl 3 rfl) ?_
    refine lv_aload_n hx hb dX2_of_5 rfl (lv_at hl 0 rfl) ?_
    refine wget hx hb hts hown hE hI 3 (by decide) q201 rfl dX2_of_6 ?_
    refine lv_icmp_ge (tgt := 38) hx hb dX2_of_9 (by decide) (fun hc => ?_) (fun hc => ?_)
    · replace hf := ipos hc hf
      exact hq _ (Option.some.inj hf).symm H locs ls hI (lv_sub hl [2] rfl)
    · replace hf := ineg hc hf
      refine lv_iload_n hx hb dX2_of_12 rfl (lv_at hl 2 rfl) ?_
      refine lv_aload_n hx hb dX2_of_13 rfl (lv_at hl 0 rfl) ?_
      refine wget hx hb hts hown hE hI 26 (by decide) q253 rfl dX2_of_14 ?_
      refine lv_iload_n hx hb dX2_of_17 rfl (lv_at hl 3 rfl) ?_
      obtain ⟨x18, ex18, hf⟩ := obd hf
      refine wald hx hb hE hI 18 8 rfl ex18 dX2_of_18 ?_
      refine lv_iload_n hx hb dX2_of_19 rfl (lv_at hl 1 rfl) ?_
      refine lv_icmp_ne (tgt := 29) hx hb dX2_of_20 (by decide) (fun hc => ?_) (fun hc => ?_)
      · replace hf := ineg hc hf
        refine lv_iconst (v := (0 : Int32)) hx hb dX2_of_29 (by decide) ?_
        refine lv_ior hx hb dX2_of_30 ?_
        obtain ⟨v31, ev31, hf⟩ := obd hf
        refine nmI ev31 ?_
        refine lv_istore_n (lv' := [(2, .int v31), (0, .ref o), (1, .int c1), (3, .int w4.2)]) hx hb dX2_of_31 rfl hl (by decide) rfl (fun ls hl => ?_)
        obtain ⟨v32, ev32, hf⟩ := obd hf
        refine lv_iinc (v := v32) (lv' := [(3, .int v32), (2, .int v31), (0, .ref o), (1, .int c1)]) hx hb dX2_of_32 hl (k := 3) rfl (iiE ev32 (by decide)) (by decide) rfl (fun ls hl => ?_)
        refine lv_goto (tgt := 4) hx hb dX2_of_35 (by decide) ?_
        exact hk _ (Option.some.inj hf).symm H locs ls hI (lv_sub hl [2, 3, 1, 0] rfl)
      · replace hf := ipos hc hf
        refine lv_iconst (v := (1 : Int32)) hx hb dX2_of_23 (by decide) ?_
        refine lv_iload_n hx hb dX2_of_24 rfl (lv_at hl 3 rfl) ?_
        refine lv_ishl hx hb dX2_of_25 ?_
        refine lv_goto (tgt := 30) hx hb dX2_of_26 (by decide) ?_
        refine lv_ior hx hb dX2_of_30 ?_
        obtain ⟨v31_4, ev31_4, hf⟩ := obd hf
        refine nmI ev31_4 ?_
        refine lv_istore_n (lv' := [(2, .int v31_4), (0, .ref o), (1, .int c1), (3, .int w4.2)]) hx hb dX2_of_31 rfl hl (by decide) rfl (fun ls hl => ?_)
        obtain ⟨v32_5, ev32_5, hf⟩ := obd hf
        refine lv_iinc (v := v32_5) (lv' := [(3, .int v32_5), (2, .int v31_4), (0, .ref o), (1, .int c1)]) hx hb dX2_of_32 hl (k := 3) rfl (iiE ev32_5 (by decide)) (by decide) rfl (fun ls hl => ?_)
        refine lv_goto (tgt := 4) hx hb dX2_of_35 (by decide) ?_
        exact hk _ (Option.some.inj hf).symm H locs ls hI (lv_sub hl [2, 3, 1, 0] rfl)
  refine loopO_W (Wat := fun w4 => ∀ (H : Heap) (locs : List Loc) (ls : Array Slot), IW D J o lw s H locs τ → lv_has ls 4 [(0, .ref o), (1, .int a1), (2, .int w4.1), (3, .int w4.2)] → W p l e ({ frames := 1, cells := 0, slots := 0, locals := 40 } : Room) s m args below meth c H locs 0 0 Q (F0 m 4 ls [])) (Wex := fun ex_ => ∀ (H : Heap) (locs : List Loc) (ls : Array Slot), IW D J o lw s H locs τ → lv_has ls 4 [(2, .int ex_)] → W p l e ({ frames := 1, cells := 0, slots := 0, locals := 40 } : Room) s m args below meth c H locs 0 0 Q (F0 m 38 ls [])) (hs4 a1) FU _ e4 he4 ?_ H locs ls hI (lv_sub hl [2, 3, 1, 0] rfl)
  · skip
    intro H locs ls hI hl
    refine lv_iload_n hx hb dX2_of_38 rfl (lv_at hl 0 rfl) ?_
    have hf := Option.some.inj hf
    rw [hf]
    exact hret H locs 39 ls hI dX2_of_39
theorem cwX2_of {R : Room} {s : State} {args : Array Value} {fr lo : Nat} (hts : ∀ w ∈ lw_all, w.before args s = true) (hR : fr + 1 ≤ R.frames ∧ 8 + (4 + 11) + lo ≤ R.locals) : CallW R s args RX2 RX2 136 yX2_of cX2_of 4 (some .int) (ws_ yX2_of cX2_of 4 (some .int)) ({ frames := fr, cells := 0, slots := 0, locals := lo }) 0 0 1 :=
  cwV 1 hts (lw_V q701 q531 q532 q134 q533) rfl rfl rfl (by decide +kernel) hR

def X2_isValid_J31 (τ : Mm) (a1 : Int32) (a2 : Int32) : Option (Int32) :=
  (ld 8 (τ 22) a1).bind fun x36 =>
  if x36 = (-1 : Int32) then
    some (1 : Int32)
  else
    (ld 8 (τ 22) a1).bind fun x47 =>
    (X1_has a2 x47).bind fun x48 =>
    if x48 = (0 : Int32) then
      some (1 : Int32)
    else
      some (0 : Int32)
def X2_isValid (τ : Mm) (a1 : Int32) (a2 : Int32) : Option (Int32) :=
  (X1_has a2 a1).bind fun x2 =>
  if x2 = (0 : Int32) then
    some (0 : Int32)
  else
    (ld 8 (τ 21) a1).bind fun x13 =>
    if x13 = (-1 : Int32) then
      X2_isValid_J31 τ a1 a2
    else
      (ld 8 (τ 21) a1).bind fun x24 =>
      (X1_has a2 x24).bind fun x25 =>
      if x25 = (0 : Int32) then
        some (0 : Int32)
      else
        X2_isValid_J31 τ a1 a2
set_option maxHeartbeats 4000000 in
theorem mX2_isValid (τ : Mm) (a1 : Int32) (a2 : Int32) (r : Int32) (hf : X2_isValid τ a1 a2 = some r) : WMi yX2_isValid cX2_isValid 3 (some .boolean) 2 61 (fun aK => [.int a1, .int a2]) r τ τ := by
  refine WMz.of (by decide) rfl (fun _ _ => Nat.le_of_ble_eq_true rfl) ?_
  intro p l e s m args below meth c D J o z lw aK aV Q ls hz hx hb hml hown hts hE hret hI hl
  obtain ⟨H, eH⟩ : ∃ H, H = s.heap := ⟨_, rfl⟩
  obtain ⟨locs, eL⟩ : ∃ L : List Loc, L = [] := ⟨_, rfl⟩
  rw [← eH, ← eL] at hI ⊢
  have hl : lv_has ls 3 [(0, .ref o), (1, .int a1), (2, .int a2)] := hl
  unfold X2_isValid at hf
  have hJ31 : ∀ (H : Heap) (locs : List Loc) (ls : Array Slot), X2_isValid_J31 τ a1 a2 = some r → IW D J o lw s H locs τ → lv_has ls 3 [(0, .ref o), (1, .int a1), (2, .int a2)] → W p l e ({ frames := 2, cells := 0, slots := 0, locals := 61 } : Room) s m args below meth c H locs 0 0 Q (F0 m 31 ls []) := by
    intro  H locs ls hf hI hl
    unfold X2_isValid_J31 at hf
    refine lv_aload_n hx hb dX2_isValid_31 rfl (lv_at hl 0 rfl) ?_
    refine wget hx hb hts hown hE hI 22 (by decide) q245 rfl dX2_isValid_32 ?_
    refine lv_iload_n hx hb dX2_isValid_35 rfl (lv_at hl 1 rfl) ?_
    obtain ⟨x36, ex36, hf⟩ := obd hf
    refine wald hx hb hE hI 14 8 rfl ex36 dX2_isValid_36 ?_
    refine lv_iconst (v := (-1 : Int32)) hx hb dX2_isValid_37 (by decide) ?_
    refine lv_icmp_eq (tgt := 54) hx hb dX2_isValid_38 (by decide) (fun hc => ?_) (fun hc => ?_)
    · replace hf := ipos hc hf
      refine lv_iconst (v := (1 : Int32)) hx hb dX2_isValid_54 (by decide) ?_
      refine lv_goto (tgt := 59) hx hb dX2_isValid_55 (by decide) ?_
      have hf := Option.some.inj hf
      rw [hf]
      exact hret H locs 59 ls hI (hf ▸ (by decide)) dX2_isValid_59
    · replace hf := ineg hc hf
      refine lv_iload_n hx hb dX2_isValid_41 rfl (lv_at hl 2 rfl) ?_
      refine lv_aload_n hx hb dX2_isValid_42 rfl (lv_at hl 0 rfl) ?_
      refine wget hx hb hts hown hE hI 22 (by decide) q245 rfl dX2_isValid_43 ?_
      refine lv_iload_n hx hb dX2_isValid_46 rfl (lv_at hl 1 rfl) ?_
      obtain ⟨x47, ex47, hf⟩ := obd hf
      refine wald hx hb hE hI 14 8 rfl ex47 dX2_isValid_47 ?_
      obtain ⟨x48, ex48, hf⟩ := obd hf
      refine tcallSN (rest := []) hx hb hts hown hml hl.1 (mX1_has a2 x47 _ ex48) (cnX1_has_X2 hts hE.2.2 ⟨Nat.le_of_ble_eq_true rfl, Nat.le_of_ble_eq_true rfl⟩) ⟨Nat.le_of_ble_eq_true rfl, Nat.le_of_ble_eq_true rfl⟩ rfl rfl (lv_room (Nat.le_of_ble_eq_true rfl)) dX2_isValid_48 ?_
      refine lv_if_ne (tgt := 58) hx hb dX2_isValid_51 (by decide) (fun hc => ?_) (fun hc => ?_)
      · replace hf := ineg hc hf
        refine lv_iconst (v := (0 : Int32)) hx hb dX2_isValid_58 (by decide) ?_
        have hf := Option.some.inj hf
        rw [hf]
        exact hret H locs 59 ls hI (hf ▸ (by decide)) dX2_isValid_59
      · replace hf := ipos hc hf
        refine lv_iconst (v := (1 : Int32)) hx hb dX2_isValid_54 (by decide) ?_
        refine lv_goto (tgt := 59) hx hb dX2_isValid_55 (by decide) ?_
        have hf := Option.some.inj hf
        rw [hf]
        exact hret H locs 59 ls hI (hf ▸ (by decide)) dX2_isValid_59
  refine lv_iload_n hx hb dX2_isValid_0 rfl (lv_at hl 2 rfl) ?_
  refine lv_iload_n hx hb dX2_isValid_1 rfl (lv_at hl 1 rfl) ?_
  obtain ⟨x2, ex2, hf⟩ := obd hf
  refine tcallSN (rest := []) hx hb hts hown hml hl.1 (mX1_has a2 a1 _ ex2) (cnX1_has_X2 hts hE.2.2 ⟨Nat.le_of_ble_eq_true rfl, Nat.le_of_ble_eq_true rfl⟩) ⟨Nat.le_of_ble_eq_true rfl, Nat.le_of_ble_eq_true rfl⟩ rfl rfl (lv_room (Nat.le_of_ble_eq_true rfl)) dX2_isValid_2 ?_
  refine lv_if_eq (tgt := 58) hx hb dX2_isValid_5 (by decide) (fun hc => ?_) (fun hc => ?_)
  · replace hf := ipos hc hf
    refine lv_iconst (v := (0 : Int32)) hx hb dX2_isValid_58 (by decide) ?_
    have hf := Option.some.inj hf
    rw [hf]
    exact hret H locs 59 ls hI (hf ▸ (by decide)) dX2_isValid_59
  · replace hf := ineg hc hf
    refine lv_aload_n hx hb dX2_isValid_8 rfl (lv_at hl 0 rfl) ?_
    refine wget hx hb hts hown hE hI 21 (by decide) q243 rfl dX2_isValid_9 ?_
    refine lv_iload_n hx hb dX2_isValid_12 rfl (lv_at hl 1 rfl) ?_
    obtain ⟨x13, ex13, hf⟩ := obd hf
    refine wald hx hb hE hI 13 8 rfl ex13 dX2_isValid_13 ?_
    refine lv_iconst (v := (-1 : Int32)) hx hb dX2_isValid_14 (by decide) ?_
    refine lv_icmp_eq (tgt := 31) hx hb dX2_isValid_15 (by decide) (fun hc => ?_) (fun hc => ?_)
    · replace hf := ipos hc hf
      exact hJ31 H locs ls hf hI  (lv_sub hl [0, 1, 2] rfl)
    · replace hf := ineg hc hf
      refine lv_iload_n hx hb dX2_isValid_18 rfl (lv_at hl 2 rfl) ?_
      refine lv_aload_n hx hb dX2_isValid_19 rfl (lv_at hl 0 rfl) ?_
      refine wget hx hb hts hown hE hI 21 (by decide) q243 rfl dX2_isValid_20 ?_
      refine lv_iload_n hx hb dX2_isValid_23 rfl (lv_at hl 1 rfl) ?_
      obtain ⟨x24, ex24, hf⟩ := obd hf
      refine wald hx hb hE hI 13 8 rfl ex24 dX2_isValid_24 ?_
      obtain ⟨x25, ex25, hf⟩ := obd hf
      refine tcallSN (rest := []) hx hb hts hown hml hl.1 (mX1_has a2 x24 _ ex25) (cnX1_has_X2 hts hE.2.2 ⟨Nat.le_of_ble_eq_true rfl, Nat.le_of_ble_eq_true rfl⟩) ⟨Nat.le_of_ble_eq_true rfl, Nat.le_of_ble_eq_true rfl⟩ rfl rfl (lv_room (Nat.le_of_ble_eq_true rfl)) dX2_isValid_25 ?_
      refine lv_if_eq (tgt := 58) hx hb dX2_isValid_28 (by decide) (fun hc => ?_) (fun hc => ?_)
      · replace hf := ipos hc hf
        refine lv_iconst (v := (0 : Int32)) hx hb dX2_isValid_58 (by decide) ?_
        have hf := Option.some.inj hf
        rw [hf]
        exact hret H locs 59 ls hI (hf ▸ (by decide)) dX2_isValid_59
      · replace hf := ineg hc hf
        exact hJ31 H locs ls hf hI  (lv_sub hl [0, 1, 2] rfl)
theorem cwX2_isValid {R : Room} {s : State} {args : Array Value} {fr lo : Nat} (hts : ∀ w ∈ lw_all, w.before args s = true) (hR : fr + 1 ≤ R.frames ∧ 8 + (3 + 11) + lo ≤ R.locals) : CallW R s args RX2 RX2 123 yX2_isValid cX2_isValid 3 (some .boolean) (ws_ yX2_isValid cX2_isValid 3 (some .boolean)) ({ frames := fr, cells := 0, slots := 0, locals := lo }) 0 0 2 :=
  cwV 2 hts (lw_V q546 q547 q548 q134 q549) rfl rfl rfl (by decide +kernel) hR

def X2_valid_L4 (τ : Mm) (c1 : Int32) (w4 : Int32 × Int32) : Option ((Int32 × Int32) ⊕ (Int32)) :=
  if (τ 0 3) ≤ w4.2 then
    some (.inr w4.1)
  else
    (X2_isValid τ w4.2 c1).bind fun x16 =>
    if x16 = (0 : Int32) then
      (some (w4.1 ||| (0 : Int32))).bind fun v30 =>
      (some (w4.2 + (1 : Int32))).bind fun v31 =>
      some (.inl (v30, v31))
    else
      (some (w4.1 ||| ((1 : Int32) <<< (w4.2 &&& (31 : Int32))))).bind fun v30_4 =>
      (some (w4.2 + (1 : Int32))).bind fun v31_5 =>
      some (.inl (v30_4, v31_5))
def X2_valid (τ : Mm) (a1 : Int32) : Option (Int32) :=
  (loopO (X2_valid_L4 τ a1) FU ((0 : Int32), (0 : Int32))).bind fun e4 =>
  some e4
set_option maxHeartbeats 4000000 in
theorem mX2_valid (τ : Mm) (a1 : Int32) (r : Int32) (hf : X2_valid τ a1 = some r) : WMi yX2_valid cX2_valid 4 (some .int) 3 83 (fun aK => [.int a1]) r τ τ := by
  refine WMi.of (by decide) rfl (fun _ _ => Nat.le_of_ble_eq_true rfl) ?_
  intro p l e s m args below meth c D J o z lw aK aV Q ls hz hx hb hml hown hts hE hret hI hl
  obtain ⟨H, eH⟩ : ∃ H, H = s.heap := ⟨_, rfl⟩
  obtain ⟨locs, eL⟩ : ∃ L : List Loc, L = [] := ⟨_, rfl⟩
  rw [← eH, ← eL] at hI ⊢
  have hl : lv_has ls 4 [(0, .ref o), (1, .int a1)] := hl
  unfold X2_valid at hf
  refine lv_iconst (v := (0 : Int32)) hx hb dX2_valid_0 (by decide) ?_
  refine lv_istore_n (lv' := [(2, .int (0 : Int32)), (0, .ref o), (1, .int a1)]) hx hb dX2_valid_1 rfl hl (by decide) rfl (fun ls hl => ?_)
  refine lv_iconst (v := (0 : Int32)) hx hb dX2_valid_2 (by decide) ?_
  refine lv_istore_n (lv' := [(3, .int (0 : Int32)), (2, .int (0 : Int32)), (0, .ref o), (1, .int a1)]) hx hb dX2_valid_3 rfl hl (by decide) rfl (fun ls hl => ?_)
  obtain ⟨e4, he4, hf⟩ := obd hf
  have hs4 : ∀ (c1 : Int32), ∀ (w4 : Int32 × Int32) (o4 : (Int32 × Int32) ⊕ (Int32)), X2_valid_L4 τ c1 w4 = some o4 → (∀ wx_, o4 = .inl wx_ → ∀ (H : Heap) (locs : List Loc) (ls : Array Slot), IW D J o lw s H locs τ → lv_has ls 4 [(0, .ref o), (1, .int c1), (2, .int wx_.1), (3, .int wx_.2)] → W p l e ({ frames := 3, cells := 0, slots := 0, locals := 83 } : Room) s m args below meth c H locs 0 0 Q (F0 m 4 ls [])) → (∀ ex_, o4 = .inr ex_ → ∀ (H : Heap) (locs : List Loc) (ls : Array Slot), IW D J o lw s H locs τ → lv_has ls 4 [(2, .int ex_)] → W p l e ({ frames := 3, cells := 0, slots := 0, locals := 83 } : Room) s m args below meth c H locs 0 0 Q (F0 m 37 ls [])) → ∀ (H : Heap) (locs : List Loc) (ls : Array Slot), IW D J o lw s H locs τ → lv_has ls 4 [(0, .ref o), (1, .int c1), (2, .int w4.1), (3, .int w4.2)] → W p l e ({ frames := 3, cells := 0, slots := 0, locals := 83 } : Room) s m args below meth c H locs 0 0 Q (F0 m 4 ls []) := by
    intro c1 w4 o4 hf hk hq H locs ls hI hl
    unfold X2_valid_L4 at hf
    refine lv_iload_n hx hb dX2_valid_4 rfl (lv_at hl 3 rfl) ?_
    refine lv_aload_n hx hb dX2_valid_5 rfl (lv_at hl 0 rfl) ?_
    refine wget hx hb hts hown hE hI 3 (by decide) q201 rfl dX2_valid_6 ?_
    refine lv_icmp_ge (tgt := 37) hx hb dX2_valid_9 (by decide) (fun hc => ?_) (fun hc => ?_)
    · replace hf := ipos hc hf
      exact hq _ (Option.some.inj hf).symm H locs ls hI (lv_sub hl [2] rfl)
    · replace hf := ineg hc hf
      refine lv_iload_n hx hb dX2_valid_12 rfl (lv_at hl 2 rfl) ?_
      refine lv_aload_n hx hb dX2_valid_13 rfl (lv_at hl 0 rfl) ?_
      refine lv_iload_n hx hb dX2_valid_14 rfl (lv_at hl 3 rfl) ?_
      refine lv_iload_n hx hb dX2_valid_15 rfl (lv_at hl 1 rfl) ?_
      obtain ⟨x16, ex16, hf⟩ := obd hf
      refine wcallI (rest := [.int w4.1]) hx hb hts hown hE hz hI hml hl.1 (mX2_isValid τ w4.2 c1 _ ex16) (cwX2_isValid hts ⟨Nat.le_of_ble_eq_true rfl, Nat.le_of_ble_eq_true rfl⟩) ⟨Nat.le_of_ble_eq_true rfl, Nat.le_of_ble_eq_true rfl⟩ rfl rfl (lv_room (Nat.le_of_ble_eq_true rfl)) dX2_valid_16 (fun H locs hI => ?_)
      refine lv_if_eq (tgt := 28) hx hb dX2_valid_19 (by decide) (fun hc => ?_) (fun hc => ?_)
      · replace hf := ipos hc hf
        refine lv_iconst (v := (0 : Int32)) hx hb dX2_valid_28 (by decide) ?_
        refine lv_ior hx hb dX2_valid_29 ?_
        obtain ⟨v30, ev30, hf⟩ := obd hf
        refine nmI ev30 ?_
        refine lv_istore_n (lv' := [(2, .int v30), (0, .ref o), (1, .int c1), (3, .int w4.2)]) hx hb dX2_valid_30 rfl hl (by decide) rfl (fun ls hl => ?_)
        obtain ⟨v31, ev31, hf⟩ := obd hf
        refine lv_iinc (v := v31) (lv' := [(3, .int v31), (2, .int v30), (0, .ref o), (1, .int c1)]) hx hb dX2_valid_31 hl (k := 3) rfl (iiE ev31 (by decide)) (by decide) rfl (fun ls hl => ?_)
        refine lv_goto (tgt := 4) hx hb dX2_valid_34 (by decide) ?_
        exact hk _ (Option.some.inj hf).symm H locs ls hI (lv_sub hl [2, 3, 1, 0] rfl)
      · replace hf := ineg hc hf
        refine lv_iconst (v := (1 : Int32)) hx hb dX2_valid_22 (by decide) ?_
        refine lv_iload_n hx hb dX2_valid_23 rfl (lv_at hl 3 rfl) ?_
        refine lv_ishl hx hb dX2_valid_24 ?_
        refine lv_goto (tgt := 29) hx hb dX2_valid_25 (by decide) ?_
        refine lv_ior hx hb dX2_valid_29 ?_
        obtain ⟨v30_4, ev30_4, hf⟩ := obd hf
        refine nmI ev30_4 ?_
        refine lv_istore_n (lv' := [(2, .int v30_4), (0, .ref o), (1, .int c1), (3, .int w4.2)]) hx hb dX2_valid_30 rfl hl (by decide) rfl (fun ls hl => ?_)
        obtain ⟨v31_5, ev31_5, hf⟩ := obd hf
        refine lv_iinc (v := v31_5) (lv' := [(3, .int v31_5), (2, .int v30_4), (0, .ref o), (1, .int c1)]) hx hb dX2_valid_31 hl (k := 3) rfl (iiE ev31_5 (by decide)) (by decide) rfl (fun ls hl => ?_)
        refine lv_goto (tgt := 4) hx hb dX2_valid_34 (by decide) ?_
        exact hk _ (Option.some.inj hf).symm H locs ls hI (lv_sub hl [2, 3, 1, 0] rfl)
  refine loopO_W (Wat := fun w4 => ∀ (H : Heap) (locs : List Loc) (ls : Array Slot), IW D J o lw s H locs τ → lv_has ls 4 [(0, .ref o), (1, .int a1), (2, .int w4.1), (3, .int w4.2)] → W p l e ({ frames := 3, cells := 0, slots := 0, locals := 83 } : Room) s m args below meth c H locs 0 0 Q (F0 m 4 ls [])) (Wex := fun ex_ => ∀ (H : Heap) (locs : List Loc) (ls : Array Slot), IW D J o lw s H locs τ → lv_has ls 4 [(2, .int ex_)] → W p l e ({ frames := 3, cells := 0, slots := 0, locals := 83 } : Room) s m args below meth c H locs 0 0 Q (F0 m 37 ls [])) (hs4 a1) FU _ e4 he4 ?_ H locs ls hI (lv_sub hl [2, 3, 1, 0] rfl)
  · skip
    intro H locs ls hI hl
    refine lv_iload_n hx hb dX2_valid_37 rfl (lv_at hl 0 rfl) ?_
    have hf := Option.some.inj hf
    rw [hf]
    exact hret H locs 38 ls hI dX2_valid_38


def X2_isWritten (τ : Mm) (a1 : Int32) (a2 : Int32) (a3 : Int32) (a4 : Int32) (a5 : Int32) : Option (Mm) :=
  (some (τ 0 3)).bind fun v4 =>
  (sto 8 τ 16 v4 a1).bind fun t13 =>
  (sto 8 t13 17 v4 a2).bind fun t21 =>
  (sto 8 t21 18 v4 a3).bind fun t29 =>
  (sto 8 t29 19 v4 a4).bind fun t38 =>
  (sto 8 t38 20 v4 a5).bind fun t47 =>
  (sto 8 t47 21 v4 (-1 : Int32)).bind fun t55 =>
  (sto 8 t55 22 v4 (-1 : Int32)).bind fun t63 =>
  (sto 8 t63 23 v4 (t63 0 4)).bind fun t74 =>
  (sto 8 t74 24 v4 (0 : Int32)).bind fun t82 =>
  (sto 8 t82 25 v4 (-1 : Int32)).bind fun t90 =>
  (sto 8 t90 26 v4 (0 : Int32)).bind fun t98 =>
  (sto 8 t98 15 v4 (0 : Int32)).bind fun t106 =>
  (some (mup t106 0 3 ((t106 0 3) + (1 : Int32)))).bind fun t114 =>
  some t114
set_option maxHeartbeats 4000000 in
theorem mX2_isWritten (τ : Mm) (a1 : Int32) (a2 : Int32) (a3 : Int32) (a4 : Int32) (a5 : Int32) (τ' : Mm) (hf : X2_isWritten τ a1 a2 a3 a4 a5 = some τ') : WMv yX2_isWritten cX2_isWritten 7 none 1 40 (fun aK => [.int a1, .int a2, .int a3, .int a4, .int a5]) τ τ' := by
  refine WMv.of (by decide) rfl (fun _ _ => Nat.le_of_ble_eq_true rfl) ?_
  intro p l e s m args below meth c D J o z lw aK aV Q ls hz hx hb hml hown hts hE hret hI hl
  obtain ⟨H, eH⟩ : ∃ H, H = s.heap := ⟨_, rfl⟩
  obtain ⟨locs, eL⟩ : ∃ L : List Loc, L = [] := ⟨_, rfl⟩
  rw [← eH, ← eL] at hI ⊢
  have hl : lv_has ls 7 [(0, .ref o), (1, .int a1), (2, .int a2), (3, .int a3), (4, .int a4), (5, .int a5)] := hl
  unfold X2_isWritten at hf
  refine lv_aload_n hx hb dX2_isWritten_0 rfl (lv_at hl 0 rfl) ?_
  refine wget hx hb hts hown hE hI 3 (by decide) q201 rfl dX2_isWritten_1 ?_
  obtain ⟨v4, ev4, hf⟩ := obd hf
  refine nmI ev4 ?_
  refine lv_istore (lv' := [(6, .int v4), (0, .ref o), (1, .int a1), (2, .int a2), (3, .int a3), (4, .int a4), (5, .int a5)]) hx hb dX2_isWritten_4 hl (by decide) rfl (fun ls hl => ?_)
  refine lv_aload_n hx hb dX2_isWritten_6 rfl (lv_at hl 1 rfl) ?_
  refine wget hx hb hts hown hE hI 16 (by decide) q230 rfl dX2_isWritten_7 ?_
  refine lv_iload hx hb dX2_isWritten_10 (lv_at hl 0 rfl) ?_
  refine lv_iload_n hx hb dX2_isWritten_12 rfl (lv_at hl 2 rfl) ?_
  obtain ⟨t13, et13, hf⟩ := obd hf
  refine wast hx hb hE hI 8 8 16 rfl (fun _ => rfl) et13 dX2_isWritten_13 (fun H locs hI => ?_)
  refine lv_aload_n hx hb dX2_isWritten_14 rfl (lv_at hl 1 rfl) ?_
  refine wget hx hb hts hown hE hI 17 (by decide) q232 rfl dX2_isWritten_15 ?_
  refine lv_iload hx hb dX2_isWritten_18 (lv_at hl 0 rfl) ?_
  refine lv_iload_n hx hb dX2_isWritten_20 rfl (lv_at hl 3 rfl) ?_
  obtain ⟨t21, et21, hf⟩ := obd hf
  refine wast hx hb hE hI 9 8 17 rfl (fun _ => rfl) et21 dX2_isWritten_21 (fun H locs hI => ?_)
  refine lv_aload_n hx hb dX2_isWritten_22 rfl (lv_at hl 1 rfl) ?_
  refine wget hx hb hts hown hE hI 18 (by decide) q235 rfl dX2_isWritten_23 ?_
  refine lv_iload hx hb dX2_isWritten_26 (lv_at hl 0 rfl) ?_
  refine lv_iload_n hx hb dX2_isWritten_28 rfl (lv_at hl 4 rfl) ?_
  obtain ⟨t29, et29, hf⟩ := obd hf
  refine wast hx hb hE hI 10 8 18 rfl (fun _ => rfl) et29 dX2_isWritten_29 (fun H locs hI => ?_)
  refine lv_aload_n hx hb dX2_isWritten_30 rfl (lv_at hl 1 rfl) ?_
  refine wget hx hb hts hown hE hI 19 (by decide) q238 rfl dX2_isWritten_31 ?_
  refine lv_iload hx hb dX2_isWritten_34 (lv_at hl 0 rfl) ?_
  refine lv_iload hx hb dX2_isWritten_36 (lv_at hl 5 rfl) ?_
  obtain ⟨t38, et38, hf⟩ := obd hf
  refine wast hx hb hE hI 11 8 19 rfl (fun _ => rfl) et38 dX2_isWritten_38 (fun H locs hI => ?_)
  refine lv_aload_n hx hb dX2_isWritten_39 rfl (lv_at hl 1 rfl) ?_
  refine wget hx hb hts hown hE hI 20 (by decide) q241 rfl dX2_isWritten_40 ?_
  refine lv_iload hx hb dX2_isWritten_43 (lv_at hl 0 rfl) ?_
  refine lv_iload hx hb dX2_isWritten_45 (lv_at hl 6 rfl) ?_
  obtain ⟨t47, et47, hf⟩ := obd hf
  refine wast hx hb hE hI 12 8 20 rfl (fun _ => rfl) et47 dX2_isWritten_47 (fun H locs hI => ?_)
  refine lv_aload_n hx hb dX2_isWritten_48 rfl (lv_at hl 1 rfl) ?_
  refine wget hx hb hts hown hE hI 21 (by decide) q243 rfl dX2_isWritten_49 ?_
  refine lv_iload hx hb dX2_isWritten_52 (lv_at hl 0 rfl) ?_
  refine lv_iconst (v := (-1 : Int32)) hx hb dX2_isWritten_54 (by decide) ?_
  obtain ⟨t55, et55, hf⟩ := obd hf
  refine wast hx hb hE hI 13 8 21 rfl (fun _ => rfl) et55 dX2_isWritten_55 (fun H locs hI => ?_)
  refine lv_aload_n hx hb dX2_isWritten_56 rfl (lv_at hl 1 rfl) ?_
  refine wget hx hb hts hown hE hI 22 (by decide) q245 rfl dX2_isWritten_57 ?_
  refine lv_iload hx hb dX2_isWritten_60 (lv_at hl 0 rfl) ?_
  refine lv_iconst (v := (-1 : Int32)) hx hb dX2_isWritten_62 (by decide) ?_
  obtain ⟨t63, et63, hf⟩ := obd hf
  refine wast hx hb hE hI 14 8 22 rfl (fun _ => rfl) et63 dX2_isWritten_63 (fun H locs hI => ?_)
  refine lv_aload_n hx hb dX2_isWritten_64 rfl (lv_at hl 1 rfl) ?_
  refine wget hx hb hts hown hE hI 23 (by decide) q247 rfl dX2_isWritten_65 ?_
  refine lv_iload hx hb dX2_isWritten_68 (lv_at hl 0 rfl) ?_
  refine lv_aload_n hx hb dX2_isWritten_70 rfl (lv_at hl 1 rfl) ?_
  refine wget hx hb hts hown hE hI 4 (by decide) q204 rfl dX2_isWritten_71 ?_
  obtain ⟨t74, et74, hf⟩ := obd hf
  refine wast hx hb hE hI 15 8 23 rfl (fun _ => rfl) et74 dX2_isWritten_74 (fun H locs hI => ?_)
  refine lv_aload_n hx hb dX2_isWritten_75 rfl (lv_at hl 1 rfl) ?_
  refine wget hx hb hts hown hE hI 24 (by decide) q249 rfl dX2_isWritten_76 ?_
  refine lv_iload hx hb dX2_isWritten_79 (lv_at hl 0 rfl) ?_
  refine lv_iconst (v := (0 : Int32)) hx hb dX2_isWritten_81 (by decide) ?_
  obtain ⟨t82, et82, hf⟩ := obd hf
  refine wast hx hb hE hI 16 8 24 rfl (fun _ => rfl) et82 dX2_isWritten_82 (fun H locs hI => ?_)
  refine lv_aload_n hx hb dX2_isWritten_83 rfl (lv_at hl 1 rfl) ?_
  refine wget hx hb hts hown hE hI 25 (by decide) q251 rfl dX2_isWritten_84 ?_
  refine lv_iload hx hb dX2_isWritten_87 (lv_at hl 0 rfl) ?_
  refine lv_iconst (v := (-1 : Int32)) hx hb dX2_isWritten_89 (by decide) ?_
  obtain ⟨t90, et90, hf⟩ := obd hf
  refine wast hx hb hE hI 17 8 25 rfl (fun _ => rfl) et90 dX2_isWritten_90 (fun H locs hI => ?_)
  refine lv_aload_n hx hb dX2_isWritten_91 rfl (lv_at hl 1 rfl) ?_
  refine wget hx hb hts hown hE hI 26 (by decide) q253 rfl dX2_isWritten_92 ?_
  refine lv_iload hx hb dX2_isWritten_95 (lv_at hl 0 rfl) ?_
  refine lv_iconst (v := (0 : Int32)) hx hb dX2_isWritten_97 (by decide) ?_
  obtain ⟨t98, et98, hf⟩ := obd hf
  refine wast hx hb hE hI 18 8 26 rfl (fun _ => rfl) et98 dX2_isWritten_98 (fun H locs hI => ?_)
  refine lv_aload_n hx hb dX2_isWritten_99 rfl (lv_at hl 1 rfl) ?_
  refine wget hx hb hts hown hE hI 15 (by decide) q227 rfl dX2_isWritten_100 ?_
  refine lv_iload hx hb dX2_isWritten_103 (lv_at hl 0 rfl) ?_
  refine lv_iconst (v := (0 : Int32)) hx hb dX2_isWritten_105 (by decide) ?_
  obtain ⟨t106, et106, hf⟩ := obd hf
  refine wzst hx hb hE hI 7 8 15 rfl (by decide) (fun _ => rfl) et106 dX2_isWritten_106 (fun H locs hI => ?_)
  refine lv_aload_n hx hb dX2_isWritten_107 rfl (lv_at hl 1 rfl) ?_
  refine lv_dup hx hb dX2_isWritten_108 rfl ?_
  refine wget hx hb hts hown hE hI 3 (by decide) q201 rfl dX2_isWritten_109 ?_
  refine lv_iconst (v := (1 : Int32)) hx hb dX2_isWritten_112 (by decide) ?_
  refine lv_iadd hx hb dX2_isWritten_113 ?_
  obtain ⟨t114, et114, hf⟩ := obd hf
  refine wput hx hb hts hown hE hI 3 (by decide) q201 rfl (tyX2_ok 3 (by decide)) rfl rfl rfl et114 dX2_isWritten_114 (fun H locs hI => ?_)
  exact hret H locs 117 ls ((Option.some.inj hf) ▸ hI) dX2_isWritten_117


def X2_tells (τ : Mm) (a1 : Int32) (a2 : Int32) (a3 : Int32) : Option (Mm) :=
  (acp 240 240 (τ 27) (τ 27) (0 : Int32) (4 : Int32) ((240 : Int32) - (4 : Int32))).bind fun f17 =>
  (some (mset τ 27 f17)).bind fun t17 =>
  (sto 240 t17 27 (0 : Int32) (t17 0 4)).bind fun t29 =>
  (sto 240 t29 27 (1 : Int32) a1).bind fun t36 =>
  (sto 240 t36 27 (2 : Int32) a2).bind fun t43 =>
  (sto 240 t43 27 (3 : Int32) a3).bind fun t50 =>
  (some (mup t50 0 7 (if ((t50 0 7) + (1 : Int32)) < (60 : Int32) then ((t50 0 7) + (1 : Int32)) else (60 : Int32)))).bind fun t63 =>
  some t63
set_option maxHeartbeats 4000000 in
theorem mX2_tells (τ : Mm) (a1 : Int32) (a2 : Int32) (a3 : Int32) (τ' : Mm) (hf : X2_tells τ a1 a2 a3 = some τ') : WMv yX2_tells cX2_tells 4 none 2 60 (fun aK => [.int a1, .int a2, .int a3]) τ τ' := by
  refine WMv.of (by decide) rfl (fun _ _ => Nat.le_of_ble_eq_true rfl) ?_
  intro p l e s m args below meth c D J o z lw aK aV Q ls hz hx hb hml hown hts hE hret hI hl
  obtain ⟨H, eH⟩ : ∃ H, H = s.heap := ⟨_, rfl⟩
  obtain ⟨locs, eL⟩ : ∃ L : List Loc, L = [] := ⟨_, rfl⟩
  rw [← eH, ← eL] at hI ⊢
  have hl : lv_has ls 4 [(0, .ref o), (1, .int a1), (2, .int a2), (3, .int a3)] := hl
  unfold X2_tells at hf
  refine lv_aload_n hx hb dX2_tells_0 rfl (lv_at hl 0 rfl) ?_
  refine wget hx hb hts hown hE hI 27 (by decide) q255 rfl dX2_tells_1 ?_
  refine lv_iconst (v := (0 : Int32)) hx hb dX2_tells_4 (by decide) ?_
  refine lv_aload_n hx hb dX2_tells_5 rfl (lv_at hl 0 rfl) ?_
  refine wget hx hb hts hown hE hI 27 (by decide) q255 rfl dX2_tells_6 ?_
  refine lv_iconst (v := (4 : Int32)) hx hb dX2_tells_9 (by decide) ?_
  refine lv_aload_n hx hb dX2_tells_10 rfl (lv_at hl 0 rfl) ?_
  refine wget hx hb hts hown hE hI 27 (by decide) q255 rfl dX2_tells_11 ?_
  refine va_alen (v := (240 : Int32)) hx hb hE.1 hI.1 19 0 rfl rfl rfl dX2_tells_14 ?_
  refine lv_iconst (v := (4 : Int32)) hx hb dX2_tells_15 (by decide) ?_
  refine lv_isub hx hb dX2_tells_16 ?_
  obtain ⟨f17, ef17, hf⟩ := obd hf
  obtain ⟨t17, et17, hf⟩ := obd hf
  refine wcopy hx hb (hml.trans hl.1.symm) hts hown hE hI 19 19 240 240 27 q568 rfl rfl (fun _ => rfl) ef17 et17 (Nat.le_of_ble_eq_true rfl) (Nat.le_of_ble_eq_true rfl) dX2_tells_17 (fun H locs hI => ?_)
  refine lv_aload_n hx hb dX2_tells_20 rfl (lv_at hl 0 rfl) ?_
  refine wget hx hb hts hown hE hI 27 (by decide) q255 rfl dX2_tells_21 ?_
  refine lv_iconst (v := (0 : Int32)) hx hb dX2_tells_24 (by decide) ?_
  refine lv_aload_n hx hb dX2_tells_25 rfl (lv_at hl 0 rfl) ?_
  refine wget hx hb hts hown hE hI 4 (by decide) q204 rfl dX2_tells_26 ?_
  obtain ⟨t29, et29, hf⟩ := obd hf
  refine wast hx hb hE hI 19 240 27 rfl (fun _ => rfl) et29 dX2_tells_29 (fun H locs hI => ?_)
  refine lv_aload_n hx hb dX2_tells_30 rfl (lv_at hl 0 rfl) ?_
  refine wget hx hb hts hown hE hI 27 (by decide) q255 rfl dX2_tells_31 ?_
  refine lv_iconst (v := (1 : Int32)) hx hb dX2_tells_34 (by decide) ?_
  refine lv_iload_n hx hb dX2_tells_35 rfl (lv_at hl 1 rfl) ?_
  obtain ⟨t36, et36, hf⟩ := obd hf
  refine wast hx hb hE hI 19 240 27 rfl (fun _ => rfl) et36 dX2_tells_36 (fun H locs hI => ?_)
  refine lv_aload_n hx hb dX2_tells_37 rfl (lv_at hl 0 rfl) ?_
  refine wget hx hb hts hown hE hI 27 (by decide) q255 rfl dX2_tells_38 ?_
  refine lv_iconst (v := (2 : Int32)) hx hb dX2_tells_41 (by decide) ?_
  refine lv_iload_n hx hb dX2_tells_42 rfl (lv_at hl 2 rfl) ?_
  obtain ⟨t43, et43, hf⟩ := obd hf
  refine wast hx hb hE hI 19 240 27 rfl (fun _ => rfl) et43 dX2_tells_43 (fun H locs hI => ?_)
  refine lv_aload_n hx hb dX2_tells_44 rfl (lv_at hl 0 rfl) ?_
  refine wget hx hb hts hown hE hI 27 (by decide) q255 rfl dX2_tells_45 ?_
  refine lv_iconst (v := (3 : Int32)) hx hb dX2_tells_48 (by decide) ?_
  refine lv_iload_n hx hb dX2_tells_49 rfl (lv_at hl 3 rfl) ?_
  obtain ⟨t50, et50, hf⟩ := obd hf
  refine wast hx hb hE hI 19 240 27 rfl (fun _ => rfl) et50 dX2_tells_50 (fun H locs hI => ?_)
  refine lv_aload_n hx hb dX2_tells_51 rfl (lv_at hl 0 rfl) ?_
  refine lv_bipush (v := (60 : Int32)) hx hb dX2_tells_52 (by decide) ?_
  refine lv_aload_n hx hb dX2_tells_54 rfl (lv_at hl 0 rfl) ?_
  refine wget hx hb hts hown hE hI 7 (by decide) q210 rfl dX2_tells_55 ?_
  refine lv_iconst (v := (1 : Int32)) hx hb dX2_tells_58 (by decide) ?_
  refine lv_iadd hx hb dX2_tells_59 ?_
  refine va_mmin hx hb (hml.trans hl.1.symm) hown (hts _ q692) (hts _ q682) (hts _ q150) (hts _ q683) (Nat.le_of_ble_eq_true rfl) (Nat.le_of_ble_eq_true rfl) (Nat.le_of_ble_eq_true rfl) (Nat.le_of_ble_eq_true rfl) dX2_tells_60 ?_
  obtain ⟨t63, et63, hf⟩ := obd hf
  refine wput hx hb hts hown hE hI 7 (by decide) q210 rfl (tyX2_ok 7 (by decide)) rfl rfl rfl et63 dX2_tells_63 (fun H locs hI => ?_)
  exact hret H locs 66 ls ((Option.some.inj hf) ▸ hI) dX2_tells_66
theorem cwX2_tells {R : Room} {s : State} {args : Array Value} {fr lo : Nat} (hts : ∀ w ∈ lw_all, w.before args s = true) (hR : fr + 1 ≤ R.frames ∧ 8 + (4 + 11) + lo ≤ R.locals) : CallW R s args RX2 RX2 132 yX2_tells cX2_tells 4 (none) (ws_ yX2_tells cX2_tells 4 (none)) ({ frames := fr, cells := 0, slots := 0, locals := lo }) 0 0 3 :=
  cwV 3 hts (lw_V q688 q689 q690 q134 q691) rfl rfl rfl (by decide +kernel) hR

def X2_comesUp (τ : Mm) (a1 : Int32) : Option (Mm) :=
  (sto 8 τ 26 a1 (1 : Int32)).bind fun t6 =>
  (sto 8 t6 25 a1 (t6 0 4)).bind fun t16 =>
  (X2_tells t16 a1 (0 : Int32) (0 : Int32)).bind fun t21 =>
  some t21
set_option maxHeartbeats 4000000 in
theorem mX2_comesUp (τ : Mm) (a1 : Int32) (τ' : Mm) (hf : X2_comesUp τ a1 = some τ') : WMv yX2_comesUp cX2_comesUp 2 none 3 83 (fun aK => [.int a1]) τ τ' := by
  refine WMv.of (by decide) rfl (fun _ _ => Nat.le_of_ble_eq_true rfl) ?_
  intro p l e s m args below meth c D J o z lw aK aV Q ls hz hx hb hml hown hts hE hret hI hl
  obtain ⟨H, eH⟩ : ∃ H, H = s.heap := ⟨_, rfl⟩
  obtain ⟨locs, eL⟩ : ∃ L : List Loc, L = [] := ⟨_, rfl⟩
  rw [← eH, ← eL] at hI ⊢
  have hl : lv_has ls 2 [(0, .ref o), (1, .int a1)] := hl
  unfold X2_comesUp at hf
  refine lv_aload_n hx hb dX2_comesUp_0 rfl (lv_at hl 0 rfl) ?_
  refine wget hx hb hts hown hE hI 26 (by decide) q253 rfl dX2_comesUp_1 ?_
  refine lv_iload_n hx hb dX2_comesUp_4 rfl (lv_at hl 1 rfl) ?_
  refine lv_iconst (v := (1 : Int32)) hx hb dX2_comesUp_5 (by decide) ?_
  obtain ⟨t6, et6, hf⟩ := obd hf
  refine wast hx hb hE hI 18 8 26 rfl (fun _ => rfl) et6 dX2_comesUp_6 (fun H locs hI => ?_)
  refine lv_aload_n hx hb dX2_comesUp_7 rfl (lv_at hl 0 rfl) ?_
  refine wget hx hb hts hown hE hI 25 (by decide) q251 rfl dX2_comesUp_8 ?_
  refine lv_iload_n hx hb dX2_comesUp_11 rfl (lv_at hl 1 rfl) ?_
  refine lv_aload_n hx hb dX2_comesUp_12 rfl (lv_at hl 0 rfl) ?_
  refine wget hx hb hts hown hE hI 4 (by decide) q204 rfl dX2_comesUp_13 ?_
  obtain ⟨t16, et16, hf⟩ := obd hf
  refine wast hx hb hE hI 17 8 25 rfl (fun _ => rfl) et16 dX2_comesUp_16 (fun H locs hI => ?_)
  refine lv_aload_n hx hb dX2_comesUp_17 rfl (lv_at hl 0 rfl) ?_
  refine lv_iload_n hx hb dX2_comesUp_18 rfl (lv_at hl 1 rfl) ?_
  refine lv_iconst (v := (0 : Int32)) hx hb dX2_comesUp_19 (by decide) ?_
  refine lv_iconst (v := (0 : Int32)) hx hb dX2_comesUp_20 (by decide) ?_
  obtain ⟨t21, et21, hf⟩ := obd hf
  refine wcallV (rest := []) hx hb hts hown hE hz hI hml hl.1 (mX2_tells t16 a1 (0 : Int32) (0 : Int32) _ et21) (cwX2_tells hts ⟨Nat.le_of_ble_eq_true rfl, Nat.le_of_ble_eq_true rfl⟩) ⟨Nat.le_of_ble_eq_true rfl, Nat.le_of_ble_eq_true rfl⟩ rfl rfl (lv_room (Nat.le_of_ble_eq_true rfl)) dX2_comesUp_21 (fun H locs hI => ?_)
  exact hret H locs 24 ls ((Option.some.inj hf) ▸ hI) dX2_comesUp_24


def X2_fades (τ : Mm) (a1 : Int32) : Option (Mm) :=
  (ld 8 (τ 16) a1).bind fun x9 =>
  (ld 6 (τ 12) x9).bind fun x10 =>
  (ld 8 (τ 26) a1).bind fun x17 =>
  if x17 = (1 : Int32) then
    if x10 = (0 : Int32) then
      some τ
    else
      (ld 8 (τ 25) a1).bind fun x35 =>
      if x10 ≤ ((τ 0 4) - x35) then
        (sto 8 τ 26 a1 (2 : Int32)).bind fun t48 =>
        (X2_tells t48 a1 (1 : Int32) (0 : Int32)).bind fun t53 =>
        some t53
      else
        some τ
  else
    some τ
set_option maxHeartbeats 4000000 in
theorem mX2_fades (τ : Mm) (a1 : Int32) (τ' : Mm) (hf : X2_fades τ a1 = some τ') : WMv yX2_fades cX2_fades 3 none 3 83 (fun aK => [.int a1]) τ τ' := by
  refine WMv.of (by decide) rfl (fun _ _ => Nat.le_of_ble_eq_true rfl) ?_
  intro p l e s m args below meth c D J o z lw aK aV Q ls hz hx hb hml hown hts hE hret hI hl
  obtain ⟨H, eH⟩ : ∃ H, H = s.heap := ⟨_, rfl⟩
  obtain ⟨locs, eL⟩ : ∃ L : List Loc, L = [] := ⟨_, rfl⟩
  rw [← eH, ← eL] at hI ⊢
  have hl : lv_has ls 3 [(0, .ref o), (1, .int a1)] := hl
  unfold X2_fades at hf
  refine lv_aload_n hx hb dX2_fades_0 rfl (lv_at hl 0 rfl) ?_
  refine wget hx hb hts hown hE hI 12 (by decide) q220 rfl dX2_fades_1 ?_
  refine lv_aload_n hx hb dX2_fades_4 rfl (lv_at hl 0 rfl) ?_
  refine wget hx hb hts hown hE hI 16 (by decide) q230 rfl dX2_fades_5 ?_
  refine lv_iload_n hx hb dX2_fades_8 rfl (lv_at hl 1 rfl) ?_
  obtain ⟨x9, ex9, hf⟩ := obd hf
  refine wald hx hb hE hI 8 8 rfl ex9 dX2_fades_9 ?_
  obtain ⟨x10, ex10, hf⟩ := obd hf
  refine wald hx hb hE hI 4 6 rfl ex10 dX2_fades_10 ?_
  refine lv_istore_n (lv' := [(2, .int x10), (0, .ref o), (1, .int a1)]) hx hb dX2_fades_11 rfl hl (by decide) rfl (fun ls hl => ?_)
  refine lv_aload_n hx hb dX2_fades_12 rfl (lv_at hl 1 rfl) ?_
  refine wget hx hb hts hown hE hI 26 (by decide) q253 rfl dX2_fades_13 ?_
  refine lv_iload_n hx hb dX2_fades_16 rfl (lv_at hl 2 rfl) ?_
  obtain ⟨x17, ex17, hf⟩ := obd hf
  refine wald hx hb hE hI 18 8 rfl ex17 dX2_fades_17 ?_
  refine lv_iconst (v := (1 : Int32)) hx hb dX2_fades_18 (by decide) ?_
  refine lv_icmp_ne (tgt := 41) hx hb dX2_fades_19 (by decide) (fun hc => ?_) (fun hc => ?_)
  · replace hf := ineg hc hf
    exact hret H locs 41 ls ((Option.some.inj hf) ▸ hI) dX2_fades_41
  · replace hf := ipos hc hf
    refine lv_iload_n hx hb dX2_fades_22 rfl (lv_at hl 0 rfl) ?_
    refine lv_if_eq (tgt := 41) hx hb dX2_fades_23 (by decide) (fun hc => ?_) (fun hc => ?_)
    · replace hf := ipos hc hf
      exact hret H locs 41 ls ((Option.some.inj hf) ▸ hI) dX2_fades_41
    · replace hf := ineg hc hf
      refine lv_aload_n hx hb dX2_fades_26 rfl (lv_at hl 1 rfl) ?_
      refine wget hx hb hts hown hE hI 4 (by decide) q204 rfl dX2_fades_27 ?_
      refine lv_aload_n hx hb dX2_fades_30 rfl (lv_at hl 1 rfl) ?_
      refine wget hx hb hts hown hE hI 25 (by decide) q251 rfl dX2_fades_31 ?_
      refine lv_iload_n hx hb dX2_fades_34 rfl (lv_at hl 2 rfl) ?_
      obtain ⟨x35, ex35, hf⟩ := obd hf
      refine wald hx hb hE hI 17 8 rfl ex35 dX2_fades_35 ?_
      refine lv_isub hx hb dX2_fades_36 ?_
      refine lv_iload_n hx hb dX2_fades_37 rfl (lv_at hl 0 rfl) ?_
      refine lv_icmp_ge (tgt := 42) hx hb dX2_fades_38 (by decide) (fun hc => ?_) (fun hc => ?_)
      · replace hf := ipos hc hf
        refine lv_aload_n hx hb dX2_fades_42 rfl (lv_at hl 1 rfl) ?_
        refine wget hx hb hts hown hE hI 26 (by decide) q253 rfl dX2_fades_43 ?_
        refine lv_iload_n hx hb dX2_fades_46 rfl (lv_at hl 2 rfl) ?_
        refine lv_iconst (v := (2 : Int32)) hx hb dX2_fades_47 (by decide) ?_
        obtain ⟨t48, et48, hf⟩ := obd hf
        refine wast hx hb hE hI 18 8 26 rfl (fun _ => rfl) et48 dX2_fades_48 (fun H locs hI => ?_)
        refine lv_aload_n hx hb dX2_fades_49 rfl (lv_at hl 1 rfl) ?_
        refine lv_iload_n hx hb dX2_fades_50 rfl (lv_at hl 2 rfl) ?_
        refine lv_iconst (v := (1 : Int32)) hx hb dX2_fades_51 (by decide) ?_
        refine lv_iconst (v := (0 : Int32)) hx hb dX2_fades_52 (by decide) ?_
        obtain ⟨t53, et53, hf⟩ := obd hf
        refine wcallV (rest := []) hx hb hts hown hE hz hI hml hl.1 (mX2_tells t48 a1 (1 : Int32) (0 : Int32) _ et53) (cwX2_tells hts ⟨Nat.le_of_ble_eq_true rfl, Nat.le_of_ble_eq_true rfl⟩) ⟨Nat.le_of_ble_eq_true rfl, Nat.le_of_ble_eq_true rfl⟩ rfl rfl (lv_room (Nat.le_of_ble_eq_true rfl)) dX2_fades_53 (fun H locs hI => ?_)
        exact hret H locs 56 ls ((Option.some.inj hf) ▸ hI) dX2_fades_56
      · replace hf := ineg hc hf
        exact hret H locs 41 ls ((Option.some.inj hf) ▸ hI) dX2_fades_41


def X2_pays_J141 (τ : Mm) (a1 : Int32) (x3 : Int32) (x4 : Int32) (y0 : Int32) (y1 : Int32) (y2 : Int32) : Option (Int32 × Mm) :=
  (zb (y1 ||| y0)).bind fun _ =>
  (sto 6 τ 14 y2 (y1 ||| y0)).bind fun t142 =>
  (sto 8 t142 15 a1 (1 : Int32)).bind fun t149 =>
  if x4 = (0 : Int32) then
    (X2_tells t149 a1 (3 : Int32) x3).bind fun t163 =>
    some ((1 : Int32), t163)
  else
    (X2_tells t149 a1 (2 : Int32) x3).bind fun t163_7 =>
    some ((1 : Int32), t163_7)
def X2_pays_J82 (τ : Mm) (a1 : Int32) (x2 : Int32) (x3 : Int32) (y0 : Int32) : Option (Int32 × Mm) :=
  (ld 6 (τ 10) x2).bind fun x90 =>
  (sto 6 τ 10 x2 (x90 - x3)).bind fun t93 =>
  (ld 8 (t93 18) a1).bind fun x103 =>
  (ld 8 (t93 18) a1).bind fun x116 =>
  (ld 6 (t93 10) x116).bind fun x117 =>
  (sto 6 t93 10 x103 (if (x117 + x3) < (9999 : Int32) then (x117 + x3) else (9999 : Int32))).bind fun t123 =>
  (ld 6 (t123 14) x2).bind fun x130 =>
  if y0 = (0 : Int32) then
    X2_pays_J141 t123 a1 x3 y0 (1 : Int32) x130 x2
  else
    X2_pays_J141 t123 a1 x3 y0 (0 : Int32) x130 x2
def X2_pays (τ : Mm) (a1 : Int32) : Option (Int32 × Mm) :=
  (ld 8 (τ 15) a1).bind fun x5 =>
  if x5 = (0 : Int32) then
    (X2_of τ (1 : Int32)).bind fun x13 =>
    (X2_isValid τ a1 x13).bind fun x16 =>
    if x16 = (0 : Int32) then
      some ((0 : Int32), τ)
    else
      (ld 8 (τ 25) a1).bind fun x31 =>
      (ld 8 (τ 20) a1).bind fun x38 =>
      if x38 ≤ ((τ 0 4) - x31) then
        (ld 8 (τ 17) a1).bind fun x49 =>
        (ld 8 (τ 19) a1).bind fun x56 =>
        (ld 6 (τ 10) x49).bind fun x62 =>
        (some (if x62 < x56 then x62 else x56)).bind fun v66 =>
        (ld 8 (τ 19) a1).bind fun x73 =>
        if v66 = x73 then
          X2_pays_J82 τ a1 x49 v66 (1 : Int32)
        else
          X2_pays_J82 τ a1 x49 v66 (0 : Int32)
      else
        some ((0 : Int32), τ)
  else
    some ((0 : Int32), τ)
set_option maxHeartbeats 4000000 in
theorem mX2_pays (τ : Mm) (a1 : Int32) (r : Int32) (τ' : Mm) (hf : X2_pays τ a1 = some (r, τ')) : WMi yX2_pays cX2_pays 5 (some .boolean) 3 83 (fun aK => [.int a1]) r τ τ' := by
  refine WMz.of (by decide) rfl (fun _ _ => Nat.le_of_ble_eq_true rfl) ?_
  intro p l e s m args below meth c D J o z lw aK aV Q ls hz hx hb hml hown hts hE hret hI hl
  obtain ⟨H, eH⟩ : ∃ H, H = s.heap := ⟨_, rfl⟩
  obtain ⟨locs, eL⟩ : ∃ L : List Loc, L = [] := ⟨_, rfl⟩
  rw [← eH, ← eL] at hI ⊢
  have hl : lv_has ls 5 [(0, .ref o), (1, .int a1)] := hl
  unfold X2_pays at hf
  have hJ141 : ∀ (τ : Mm) (x3 : Int32) (x4 : Int32) (y0 : Int32) (y1 : Int32) (y2 : Int32) (H : Heap) (locs : List Loc) (ls : Array Slot), X2_pays_J141 τ a1 x3 x4 y0 y1 y2 = some (r, τ') → IW D J o lw s H locs τ → lv_has ls 5 [(0, .ref o), (1, .int a1), (3, .int x3), (4, .int x4)] → W p l e ({ frames := 3, cells := 0, slots := 0, locals := 83 } : Room) s m args below meth c H locs 0 0 Q (F0 m 141 ls [.int y0, .int y1, .int y2, .ref (o + 6)]) := by
    intro τ x3 x4 y0 y1 y2 H locs ls hf hI hl
    unfold X2_pays_J141 at hf
    refine lv_ior hx hb dX2_pays_141 ?_
    obtain ⟨_, eb142, hf⟩ := obd hf
    obtain ⟨t142, et142, hf⟩ := obd hf
    refine wzst hx hb hE hI 6 6 14 rfl (zb_e eb142).2 (fun _ => rfl) et142 dX2_pays_142 (fun H locs hI => ?_)
    refine lv_aload_n hx hb dX2_pays_143 rfl (lv_at hl 0 rfl) ?_
    refine wget hx hb hts hown hE hI 15 (by decide) q227 rfl dX2_pays_144 ?_
    refine lv_iload_n hx hb dX2_pays_147 rfl (lv_at hl 1 rfl) ?_
    refine lv_iconst (v := (1 : Int32)) hx hb dX2_pays_148 (by decide) ?_
    obtain ⟨t149, et149, hf⟩ := obd hf
    refine wzst hx hb hE hI 7 8 15 rfl (by decide) (fun _ => rfl) et149 dX2_pays_149 (fun H locs hI => ?_)
    refine lv_aload_n hx hb dX2_pays_150 rfl (lv_at hl 0 rfl) ?_
    refine lv_iload_n hx hb dX2_pays_151 rfl (lv_at hl 1 rfl) ?_
    refine lv_iload hx hb dX2_pays_152 (lv_at hl 3 rfl) ?_
    refine lv_if_eq (tgt := 161) hx hb dX2_pays_154 (by decide) (fun hc => ?_) (fun hc => ?_)
    · replace hf := ipos hc hf
      refine lv_iconst (v := (3 : Int32)) hx hb dX2_pays_161 (by decide) ?_
      refine lv_iload_n hx hb dX2_pays_162 rfl (lv_at hl 2 rfl) ?_
      obtain ⟨t163, et163, hf⟩ := obd hf
      refine wcallV (rest := []) hx hb hts hown hE hz hI hml hl.1 (mX2_tells t149 a1 (3 : Int32) x3 _ et163) (cwX2_tells hts ⟨Nat.le_of_ble_eq_true rfl, Nat.le_of_ble_eq_true rfl⟩) ⟨Nat.le_of_ble_eq_true rfl, Nat.le_of_ble_eq_true rfl⟩ rfl rfl (lv_room (Nat.le_of_ble_eq_true rfl)) dX2_pays_163 (fun H locs hI => ?_)
      refine lv_iconst (v := (1 : Int32)) hx hb dX2_pays_166 (by decide) ?_
      have hf := Prod.mk.inj (Option.some.inj hf)
      rw [hf.1]
      exact hret H locs 167 ls (hf.2 ▸ hI) (hf.1 ▸ (by decide)) dX2_pays_167
    · replace hf := ineg hc hf
      refine lv_iconst (v := (2 : Int32)) hx hb dX2_pays_157 (by decide) ?_
      refine lv_goto (tgt := 162) hx hb dX2_pays_158 (by decide) ?_
      refine lv_iload_n hx hb dX2_pays_162 rfl (lv_at hl 2 rfl) ?_
      obtain ⟨t163_7, et163_7, hf⟩ := obd hf
      refine wcallV (rest := []) hx hb hts hown hE hz hI hml hl.1 (mX2_tells t149 a1 (2 : Int32) x3 _ et163_7) (cwX2_tells hts ⟨Nat.le_of_ble_eq_true rfl, Nat.le_of_ble_eq_true rfl⟩) ⟨Nat.le_of_ble_eq_true rfl, Nat.le_of_ble_eq_true rfl⟩ rfl rfl (lv_room (Nat.le_of_ble_eq_true rfl)) dX2_pays_163 (fun H locs hI => ?_)
      refine lv_iconst (v := (1 : Int32)) hx hb dX2_pays_166 (by decide) ?_
      have hf := Prod.mk.inj (Option.some.inj hf)
      rw [hf.1]
      exact hret H locs 167 ls (hf.2 ▸ hI) (hf.1 ▸ (by decide)) dX2_pays_167
  have hJ82 : ∀ (τ : Mm) (x2 : Int32) (x3 : Int32) (y0 : Int32) (H : Heap) (locs : List Loc) (ls : Array Slot), X2_pays_J82 τ a1 x2 x3 y0 = some (r, τ') → IW D J o lw s H locs τ → lv_has ls 5 [(0, .ref o), (1, .int a1), (2, .int x2), (3, .int x3)] → W p l e ({ frames := 3, cells := 0, slots := 0, locals := 83 } : Room) s m args below meth c H locs 0 0 Q (F0 m 82 ls [.int y0]) := by
    intro τ x2 x3 y0 H locs ls hf hI hl
    unfold X2_pays_J82 at hf
    refine lv_istore (lv' := [(4, .int y0), (0, .ref o), (1, .int a1), (2, .int x2), (3, .int x3)]) hx hb dX2_pays_82 hl (by decide) rfl (fun ls hl => ?_)
    refine lv_aload_n hx hb dX2_pays_84 rfl (lv_at hl 1 rfl) ?_
    refine wget hx hb hts hown hE hI 10 (by decide) q216 rfl dX2_pays_85 ?_
    refine lv_iload_n hx hb dX2_pays_88 rfl (lv_at hl 3 rfl) ?_
    refine lv_dup2_11 hx hb dX2_pays_89 rfl rfl ?_
    obtain ⟨x90, ex90, hf⟩ := obd hf
    refine wald hx hb hE hI 2 6 rfl ex90 dX2_pays_90 ?_
    refine lv_iload_n hx hb dX2_pays_91 rfl (lv_at hl 4 rfl) ?_
    refine lv_isub hx hb dX2_pays_92 ?_
    obtain ⟨t93, et93, hf⟩ := obd hf
    refine wast hx hb hE hI 2 6 10 rfl (fun _ => rfl) et93 dX2_pays_93 (fun H locs hI => ?_)
    refine lv_aload_n hx hb dX2_pays_94 rfl (lv_at hl 1 rfl) ?_
    refine wget hx hb hts hown hE hI 10 (by decide) q216 rfl dX2_pays_95 ?_
    refine lv_aload_n hx hb dX2_pays_98 rfl (lv_at hl 1 rfl) ?_
    refine wget hx hb hts hown hE hI 18 (by decide) q235 rfl dX2_pays_99 ?_
    refine lv_iload_n hx hb dX2_pays_102 rfl (lv_at hl 2 rfl) ?_
    obtain ⟨x103, ex103, hf⟩ := obd hf
    refine wald hx hb hE hI 10 8 rfl ex103 dX2_pays_103 ?_
    refine lv_sipush (v := (9999 : Int32)) hx hb dX2_pays_104 (by decide) ?_
    refine lv_aload_n hx hb dX2_pays_107 rfl (lv_at hl 1 rfl) ?_
    refine wget hx hb hts hown hE hI 10 (by decide) q216 rfl dX2_pays_108 ?_
    refine lv_aload_n hx hb dX2_pays_111 rfl (lv_at hl 1 rfl) ?_
    refine wget hx hb hts hown hE hI 18 (by decide) q235 rfl dX2_pays_112 ?_
    refine lv_iload_n hx hb dX2_pays_115 rfl (lv_at hl 2 rfl) ?_
    obtain ⟨x116, ex116, hf⟩ := obd hf
    refine wald hx hb hE hI 10 8 rfl ex116 dX2_pays_116 ?_
    obtain ⟨x117, ex117, hf⟩ := obd hf
    refine wald hx hb hE hI 2 6 rfl ex117 dX2_pays_117 ?_
    refine lv_iload_n hx hb dX2_pays_118 rfl (lv_at hl 4 rfl) ?_
    refine lv_iadd hx hb dX2_pays_119 ?_
    refine va_mmin hx hb (hml.trans hl.1.symm) hown (hts _ q692) (hts _ q682) (hts _ q150) (hts _ q683) (Nat.le_of_ble_eq_true rfl) (Nat.le_of_ble_eq_true rfl) (Nat.le_of_ble_eq_true rfl) (Nat.le_of_ble_eq_true rfl) dX2_pays_120 ?_
    obtain ⟨t123, et123, hf⟩ := obd hf
    refine wast hx hb hE hI 2 6 10 rfl (fun _ => rfl) et123 dX2_pays_123 (fun H locs hI => ?_)
    refine lv_aload_n hx hb dX2_pays_124 rfl (lv_at hl 1 rfl) ?_
    refine wget hx hb hts hown hE hI 14 (by decide) q225 rfl dX2_pays_125 ?_
    refine lv_iload_n hx hb dX2_pays_128 rfl (lv_at hl 3 rfl) ?_
    refine lv_dup2_11 hx hb dX2_pays_129 rfl rfl ?_
    obtain ⟨x130, ex130, hf⟩ := obd hf
    refine wzld hx hb hE hI 6 6 rfl ex130 dX2_pays_130 ?_
    refine lv_iload hx hb dX2_pays_131 (lv_at hl 0 rfl) ?_
    refine lv_if_ne (tgt := 140) hx hb dX2_pays_133 (by decide) (fun hc => ?_) (fun hc => ?_)
    · replace hf := ineg hc hf
      refine lv_iconst (v := (0 : Int32)) hx hb dX2_pays_140 (by decide) ?_
      exact hJ141 t123 x3 y0 (0 : Int32) x130 x2 H locs ls hf hI  (lv_sub hl [1, 2, 4, 0] rfl)
    · replace hf := ipos hc hf
      refine lv_iconst (v := (1 : Int32)) hx hb dX2_pays_136 (by decide) ?_
      refine lv_goto (tgt := 141) hx hb dX2_pays_137 (by decide) ?_
      exact hJ141 t123 x3 y0 (1 : Int32) x130 x2 H locs ls hf hI  (lv_sub hl [1, 2, 4, 0] rfl)
  refine lv_aload_n hx hb dX2_pays_0 rfl (lv_at hl 0 rfl) ?_
  refine wget hx hb hts hown hE hI 15 (by decide) q227 rfl dX2_pays_1 ?_
  refine lv_iload_n hx hb dX2_pays_4 rfl (lv_at hl 1 rfl) ?_
  obtain ⟨x5, ex5, hf⟩ := obd hf
  refine wzld hx hb hE hI 7 8 rfl ex5 dX2_pays_5 ?_
  refine lv_if_ne (tgt := 42) hx hb dX2_pays_6 (by decide) (fun hc => ?_) (fun hc => ?_)
  · replace hf := ineg hc hf
    refine lv_iconst (v := (0 : Int32)) hx hb dX2_pays_42 (by decide) ?_
    have hf := Prod.mk.inj (Option.some.inj hf)
    rw [hf.1]
    exact hret H locs 43 ls (hf.2 ▸ hI) (hf.1 ▸ (by decide)) dX2_pays_43
  · replace hf := ipos hc hf
    refine lv_aload_n hx hb dX2_pays_9 rfl (lv_at hl 0 rfl) ?_
    refine lv_iload_n hx hb dX2_pays_10 rfl (lv_at hl 1 rfl) ?_
    refine lv_aload_n hx hb dX2_pays_11 rfl (lv_at hl 0 rfl) ?_
    refine lv_iconst (v := (1 : Int32)) hx hb dX2_pays_12 (by decide) ?_
    obtain ⟨x13, ex13, hf⟩ := obd hf
    refine wcallI (rest := [.int a1, .ref o]) hx hb hts hown hE hz hI hml hl.1 (mX2_of τ (1 : Int32) _ ex13) (cwX2_of hts ⟨Nat.le_of_ble_eq_true rfl, Nat.le_of_ble_eq_true rfl⟩) ⟨Nat.le_of_ble_eq_true rfl, Nat.le_of_ble_eq_true rfl⟩ rfl rfl (lv_room (Nat.le_of_ble_eq_true rfl)) dX2_pays_13 (fun H locs hI => ?_)
    obtain ⟨x16, ex16, hf⟩ := obd hf
    refine wcallI (rest := []) hx hb hts hown hE hz hI hml hl.1 (mX2_isValid τ a1 x13 _ ex16) (cwX2_isValid hts ⟨Nat.le_of_ble_eq_true rfl, Nat.le_of_ble_eq_true rfl⟩) ⟨Nat.le_of_ble_eq_true rfl, Nat.le_of_ble_eq_true rfl⟩ rfl rfl (lv_room (Nat.le_of_ble_eq_true rfl)) dX2_pays_16 (fun H locs hI => ?_)
    refine lv_if_eq (tgt := 42) hx hb dX2_pays_19 (by decide) (fun hc => ?_) (fun hc => ?_)
    · replace hf := ipos hc hf
      refine lv_iconst (v := (0 : Int32)) hx hb dX2_pays_42 (by decide) ?_
      have hf := Prod.mk.inj (Option.some.inj hf)
      rw [hf.1]
      exact hret H locs 43 ls (hf.2 ▸ hI) (hf.1 ▸ (by decide)) dX2_pays_43
    · replace hf := ineg hc hf
      refine lv_aload_n hx hb dX2_pays_22 rfl (lv_at hl 0 rfl) ?_
      refine wget hx hb hts hown hE hI 4 (by decide) q204 rfl dX2_pays_23 ?_
      refine lv_aload_n hx hb dX2_pays_26 rfl (lv_at hl 0 rfl) ?_
      refine wget hx hb hts hown hE hI 25 (by decide) q251 rfl dX2_pays_27 ?_
      refine lv_iload_n hx hb dX2_pays_30 rfl (lv_at hl 1 rfl) ?_
      obtain ⟨x31, ex31, hf⟩ := obd hf
      refine wald hx hb hE hI 17 8 rfl ex31 dX2_pays_31 ?_
      refine lv_isub hx hb dX2_pays_32 ?_
      refine lv_aload_n hx hb dX2_pays_33 rfl (lv_at hl 0 rfl) ?_
      refine wget hx hb hts hown hE hI 20 (by decide) q241 rfl dX2_pays_34 ?_
      refine lv_iload_n hx hb dX2_pays_37 rfl (lv_at hl 1 rfl) ?_
      obtain ⟨x38, ex38, hf⟩ := obd hf
      refine wald hx hb hE hI 12 8 rfl ex38 dX2_pays_38 ?_
      refine lv_icmp_ge (tgt := 44) hx hb dX2_pays_39 (by decide) (fun hc => ?_) (fun hc => ?_)
      · replace hf := ipos hc hf
        refine lv_aload_n hx hb dX2_pays_44 rfl (lv_at hl 0 rfl) ?_
        refine wget hx hb hts hown hE hI 17 (by decide) q232 rfl dX2_pays_45 ?_
        refine lv_iload_n hx hb dX2_pays_48 rfl (lv_at hl 1 rfl) ?_
        obtain ⟨x49, ex49, hf⟩ := obd hf
        refine wald hx hb hE hI 9 8 rfl ex49 dX2_pays_49 ?_
        refine lv_istore_n (lv' := [(2, .int x49), (0, .ref o), (1, .int a1)]) hx hb dX2_pays_50 rfl hl (by decide) rfl (fun ls hl => ?_)
        refine lv_aload_n hx hb dX2_pays_51 rfl (lv_at hl 1 rfl) ?_
        refine wget hx hb hts hown hE hI 19 (by decide) q238 rfl dX2_pays_52 ?_
        refine lv_iload_n hx hb dX2_pays_55 rfl (lv_at hl 2 rfl) ?_
        obtain ⟨x56, ex56, hf⟩ := obd hf
        refine wald hx hb hE hI 11 8 rfl ex56 dX2_pays_56 ?_
        refine lv_aload_n hx hb dX2_pays_57 rfl (lv_at hl 1 rfl) ?_
        refine wget hx hb hts hown hE hI 10 (by decide) q216 rfl dX2_pays_58 ?_
        refine lv_iload_n hx hb dX2_pays_61 rfl (lv_at hl 0 rfl) ?_
        obtain ⟨x62, ex62, hf⟩ := obd hf
        refine wald hx hb hE hI 2 6 rfl ex62 dX2_pays_62 ?_
        refine va_mmin hx hb (hml.trans hl.1.symm) hown (hts _ q692) (hts _ q682) (hts _ q150) (hts _ q683) (Nat.le_of_ble_eq_true rfl) (Nat.le_of_ble_eq_true rfl) (Nat.le_of_ble_eq_true rfl) (Nat.le_of_ble_eq_true rfl) dX2_pays_63 ?_
        obtain ⟨v66, ev66, hf⟩ := obd hf
        refine nmI ev66 ?_
        refine lv_istore_n (lv' := [(3, .int v66), (2, .int x49), (0, .ref o), (1, .int a1)]) hx hb dX2_pays_66 rfl hl (by decide) rfl (fun ls hl => ?_)
        refine lv_iload_n hx hb dX2_pays_67 rfl (lv_at hl 0 rfl) ?_
        refine lv_aload_n hx hb dX2_pays_68 rfl (lv_at hl 2 rfl) ?_
        refine wget hx hb hts hown hE hI 19 (by decide) q238 rfl dX2_pays_69 ?_
        refine lv_iload_n hx hb dX2_pays_72 rfl (lv_at hl 3 rfl) ?_
        obtain ⟨x73, ex73, hf⟩ := obd hf
        refine wald hx hb hE hI 11 8 rfl ex73 dX2_pays_73 ?_
        refine lv_icmp_ne (tgt := 81) hx hb dX2_pays_74 (by decide) (fun hc => ?_) (fun hc => ?_)
        · replace hf := ineg hc hf
          refine lv_iconst (v := (0 : Int32)) hx hb dX2_pays_81 (by decide) ?_
          exact hJ82 τ x49 v66 (0 : Int32) H locs ls hf hI  (lv_sub hl [2, 3, 1, 0] rfl)
        · replace hf := ipos hc hf
          refine lv_iconst (v := (1 : Int32)) hx hb dX2_pays_77 (by decide) ?_
          refine lv_goto (tgt := 82) hx hb dX2_pays_78 (by decide) ?_
          exact hJ82 τ x49 v66 (1 : Int32) H locs ls hf hI  (lv_sub hl [2, 3, 1, 0] rfl)
      · replace hf := ineg hc hf
        refine lv_iconst (v := (0 : Int32)) hx hb dX2_pays_42 (by decide) ?_
        have hf := Prod.mk.inj (Option.some.inj hf)
        rw [hf.1]
        exact hret H locs 43 ls (hf.2 ▸ hI) (hf.1 ▸ (by decide)) dX2_pays_43


def X2_paidOnes_L4 (τ : Mm) (w4 : Int32 × Int32) : Option ((Int32 × Int32) ⊕ (Int32)) :=
  if (τ 0 3) ≤ w4.2 then
    some (.inr w4.1)
  else
    (ld 8 (τ 15) w4.2).bind fun x18 =>
    if x18 = (0 : Int32) then
      (some (w4.1 ||| (0 : Int32))).bind fun v30 =>
      (some (w4.2 + (1 : Int32))).bind fun v31 =>
      some (.inl (v30, v31))
    else
      (some (w4.1 ||| ((1 : Int32) <<< (w4.2 &&& (31 : Int32))))).bind fun v30_4 =>
      (some (w4.2 + (1 : Int32))).bind fun v31_5 =>
      some (.inl (v30_4, v31_5))
def X2_paidOnes (τ : Mm) : Option (Int32) :=
  (loopO (X2_paidOnes_L4 τ) FU ((0 : Int32), (0 : Int32))).bind fun e4 =>
  some e4
set_option maxHeartbeats 4000000 in
theorem mX2_paidOnes (τ : Mm) (r : Int32) (hf : X2_paidOnes τ = some r) : WMi yX2_paidOnes cX2_paidOnes 3 (some .int) 1 40 (fun aK => []) r τ τ := by
  refine WMi.of (by decide) rfl (fun _ _ => Nat.le_of_ble_eq_true rfl) ?_
  intro p l e s m args below meth c D J o z lw aK aV Q ls hz hx hb hml hown hts hE hret hI hl
  obtain ⟨H, eH⟩ : ∃ H, H = s.heap := ⟨_, rfl⟩
  obtain ⟨locs, eL⟩ : ∃ L : List Loc, L = [] := ⟨_, rfl⟩
  rw [← eH, ← eL] at hI ⊢
  have hl : lv_has ls 3 [(0, .ref o)] := hl
  unfold X2_paidOnes at hf
  refine lv_iconst (v := (0 : Int32)) hx hb dX2_paidOnes_0 (by decide) ?_
  refine lv_istore_n (lv' := [(1, .int (0 : Int32)), (0, .ref o)]) hx hb dX2_paidOnes_1 rfl hl (by decide) rfl (fun ls hl => ?_)
  refine lv_iconst (v := (0 : Int32)) hx hb dX2_paidOnes_2 (by decide) ?_
  refine lv_istore_n (lv' := [(2, .int (0 : Int32)), (1, .int (0 : Int32)), (0, .ref o)]) hx hb dX2_paidOnes_3 rfl hl (by decide) rfl (fun ls hl => ?_)
  obtain ⟨e4, he4, hf⟩ := obd hf
  refine loopO_W (Wat := fun w4 => ∀ (H : Heap) (locs : List Loc) (ls : Array Slot), IW D J o lw s H locs τ → lv_has ls 3 [(0, .ref o), (1, .int w4.1), (2, .int w4.2)] → W p l e ({ frames := 1, cells := 0, slots := 0, locals := 40 } : Room) s m args below meth c H locs 0 0 Q (F0 m 4 ls [])) (Wex := fun ex_ => ∀ (H : Heap) (locs : List Loc) (ls : Array Slot), IW D J o lw s H locs τ → lv_has ls 3 [(1, .int ex_)] → W p l e ({ frames := 1, cells := 0, slots := 0, locals := 40 } : Room) s m args below meth c H locs 0 0 Q (F0 m 37 ls [])) (fun w4 o4 hf hk hq => ?_) FU _ e4 he4 ?_ H locs ls hI (lv_sub hl [2, 1, 0] rfl)
  · intro H locs ls hI hl
    unfold X2_paidOnes_L4 at hf
    refine lv_iload_n hx hb dX2_paidOnes_4 rfl (lv_at hl 2 rfl) ?_
    refine lv_aload_n hx hb dX2_paidOnes_5 rfl (lv_at hl 0 rfl) ?_
    refine wget hx hb hts hown hE hI 3 (by decide) q201 rfl dX2_paidOnes_6 ?_
    refine lv_icmp_ge (tgt := 37) hx hb dX2_paidOnes_9 (by decide) (fun hc => ?_) (fun hc => ?_)
    · replace hf := ipos hc hf
      exact hq _ (Option.some.inj hf).symm H locs ls hI (lv_sub hl [1] rfl)
    · replace hf := ineg hc hf
      refine lv_iload_n hx hb dX2_paidOnes_12 rfl (lv_at hl 1 rfl) ?_
      refine lv_aload_n hx hb dX2_paidOnes_13 rfl (lv_at hl 0 rfl) ?_
      refine wget hx hb hts hown hE hI 15 (by decide) q227 rfl dX2_paidOnes_14 ?_
      refine lv_iload_n hx hb dX2_paidOnes_17 rfl (lv_at hl 2 rfl) ?_
      obtain ⟨x18, ex18, hf⟩ := obd hf
      refine wzld hx hb hE hI 7 8 rfl ex18 dX2_paidOnes_18 ?_
      refine lv_if_eq (tgt := 28) hx hb dX2_paidOnes_19 (by decide) (fun hc => ?_) (fun hc => ?_)
      · replace hf := ipos hc hf
        refine lv_iconst (v := (0 : Int32)) hx hb dX2_paidOnes_28 (by decide) ?_
        refine lv_ior hx hb dX2_paidOnes_29 ?_
        obtain ⟨v30, ev30, hf⟩ := obd hf
        refine nmI ev30 ?_
        refine lv_istore_n (lv' := [(1, .int v30), (0, .ref o), (2, .int w4.2)]) hx hb dX2_paidOnes_30 rfl hl (by decide) rfl (fun ls hl => ?_)
        obtain ⟨v31, ev31, hf⟩ := obd hf
        refine lv_iinc (v := v31) (lv' := [(2, .int v31), (1, .int v30), (0, .ref o)]) hx hb dX2_paidOnes_31 hl (k := 2) rfl (iiE ev31 (by decide)) (by decide) rfl (fun ls hl => ?_)
        refine lv_goto (tgt := 4) hx hb dX2_paidOnes_34 (by decide) ?_
        exact hk _ (Option.some.inj hf).symm H locs ls hI (lv_sub hl [2, 1, 0] rfl)
      · replace hf := ineg hc hf
        refine lv_iconst (v := (1 : Int32)) hx hb dX2_paidOnes_22 (by decide) ?_
        refine lv_iload_n hx hb dX2_paidOnes_23 rfl (lv_at hl 2 rfl) ?_
        refine lv_ishl hx hb dX2_paidOnes_24 ?_
        refine lv_goto (tgt := 29) hx hb dX2_paidOnes_25 (by decide) ?_
        refine lv_ior hx hb dX2_paidOnes_29 ?_
        obtain ⟨v30_4, ev30_4, hf⟩ := obd hf
        refine nmI ev30_4 ?_
        refine lv_istore_n (lv' := [(1, .int v30_4), (0, .ref o), (2, .int w4.2)]) hx hb dX2_paidOnes_30 rfl hl (by decide) rfl (fun ls hl => ?_)
        obtain ⟨v31_5, ev31_5, hf⟩ := obd hf
        refine lv_iinc (v := v31_5) (lv' := [(2, .int v31_5), (1, .int v30_4), (0, .ref o)]) hx hb dX2_paidOnes_31 hl (k := 2) rfl (iiE ev31_5 (by decide)) (by decide) rfl (fun ls hl => ?_)
        refine lv_goto (tgt := 4) hx hb dX2_paidOnes_34 (by decide) ?_
        exact hk _ (Option.some.inj hf).symm H locs ls hI (lv_sub hl [2, 1, 0] rfl)
  · skip
    intro H locs ls hI hl
    refine lv_iload_n hx hb dX2_paidOnes_37 rfl (lv_at hl 0 rfl) ?_
    have hf := Option.some.inj hf
    rw [hf]
    exact hret H locs 38 ls hI dX2_paidOnes_38


def X2_brokeOnes_L4 (τ : Mm) (w4 : Int32 × Int32) : Option ((Int32 × Int32) ⊕ (Int32)) :=
  if (τ 0 1) ≤ w4.2 then
    some (.inr w4.1)
  else
    (ld 6 (τ 14) w4.2).bind fun x18 =>
    if x18 = (0 : Int32) then
      (some (w4.1 ||| (0 : Int32))).bind fun v30 =>
      (some (w4.2 + (1 : Int32))).bind fun v31 =>
      some (.inl (v30, v31))
    else
      (some (w4.1 ||| ((1 : Int32) <<< (w4.2 &&& (31 : Int32))))).bind fun v30_4 =>
      (some (w4.2 + (1 : Int32))).bind fun v31_5 =>
      some (.inl (v30_4, v31_5))
def X2_brokeOnes (τ : Mm) : Option (Int32) :=
  (loopO (X2_brokeOnes_L4 τ) FU ((0 : Int32), (0 : Int32))).bind fun e4 =>
  some e4
set_option maxHeartbeats 4000000 in
theorem mX2_brokeOnes (τ : Mm) (r : Int32) (hf : X2_brokeOnes τ = some r) : WMi yX2_brokeOnes cX2_brokeOnes 3 (some .int) 1 40 (fun aK => []) r τ τ := by
  refine WMi.of (by decide) rfl (fun _ _ => Nat.le_of_ble_eq_true rfl) ?_
  intro p l e s m args below meth c D J o z lw aK aV Q ls hz hx hb hml hown hts hE hret hI hl
  obtain ⟨H, eH⟩ : ∃ H, H = s.heap := ⟨_, rfl⟩
  obtain ⟨locs, eL⟩ : ∃ L : List Loc, L = [] := ⟨_, rfl⟩
  rw [← eH, ← eL] at hI ⊢
  have hl : lv_has ls 3 [(0, .ref o)] := hl
  unfold X2_brokeOnes at hf
  refine lv_iconst (v := (0 : Int32)) hx hb dX2_brokeOnes_0 (by decide) ?_
  refine lv_istore_n (lv' := [(1, .int (0 : Int32)), (0, .ref o)]) hx hb dX2_brokeOnes_1 rfl hl (by decide) rfl (fun ls hl => ?_)
  refine lv_iconst (v := (0 : Int32)) hx hb dX2_brokeOnes_2 (by decide) ?_
  refine lv_istore_n (lv' := [(2, .int (0 : Int32)), (1, .int (0 : Int32)), (0, .ref o)]) hx hb dX2_brokeOnes_3 rfl hl (by decide) rfl (fun ls hl => ?_)
  obtain ⟨e4, he4, hf⟩ := obd hf
  refine loopO_W (Wat := fun w4 => ∀ (H : Heap) (locs : List Loc) (ls : Array Slot), IW D J o lw s H locs τ → lv_has ls 3 [(0, .ref o), (1, .int w4.1), (2, .int w4.2)] → W p l e ({ frames := 1, cells := 0, slots := 0, locals := 40 } : Room) s m args below meth c H locs 0 0 Q (F0 m 4 ls [])) (Wex := fun ex_ => ∀ (H : Heap) (locs : List Loc) (ls : Array Slot), IW D J o lw s H locs τ → lv_has ls 3 [(1, .int ex_)] → W p l e ({ frames := 1, cells := 0, slots := 0, locals := 40 } : Room) s m args below meth c H locs 0 0 Q (F0 m 37 ls [])) (fun w4 o4 hf hk hq => ?_) FU _ e4 he4 ?_ H locs ls hI (lv_sub hl [2, 1, 0] rfl)
  · intro H locs ls hI hl
    unfold X2_brokeOnes_L4 at hf
    refine lv_iload_n hx hb dX2_brokeOnes_4 rfl (lv_at hl 2 rfl) ?_
    refine lv_aload_n hx hb dX2_brokeOnes_5 rfl (lv_at hl 0 rfl) ?_
    refine wget hx hb hts hown hE hI 1 (by decide) q196 rfl dX2_brokeOnes_6 ?_
    refine lv_icmp_ge (tgt := 37) hx hb dX2_brokeOnes_9 (by decide) (fun hc => ?_) (fun hc => ?_)
    · replace hf := ipos hc hf
      exact hq _ (Option.some.inj hf).symm H locs ls hI (lv_sub hl [1] rfl)
    · replace hf := ineg hc hf
      refine lv_iload_n hx hb dX2_brokeOnes_12 rfl (lv_at hl 1 rfl) ?_
      refine lv_aload_n hx hb dX2_brokeOnes_13 rfl (lv_at hl 0 rfl) ?_
      refine wget hx hb hts hown hE hI 14 (by decide) q225 rfl dX2_brokeOnes_14 ?_
      refine lv_iload_n hx hb dX2_brokeOnes_17 rfl (lv_at hl 2 rfl) ?_
      obtain ⟨x18, ex18, hf⟩ := obd hf
      refine wzld hx hb hE hI 6 6 rfl ex18 dX2_brokeOnes_18 ?_
      refine lv_if_eq (tgt := 28) hx hb dX2_brokeOnes_19 (by decide) (fun hc => ?_) (fun hc => ?_)
      · replace hf := ipos hc hf
        refine lv_iconst (v := (0 : Int32)) hx hb dX2_brokeOnes_28 (by decide) ?_
        refine lv_ior hx hb dX2_brokeOnes_29 ?_
        obtain ⟨v30, ev30, hf⟩ := obd hf
        refine nmI ev30 ?_
        refine lv_istore_n (lv' := [(1, .int v30), (0, .ref o), (2, .int w4.2)]) hx hb dX2_brokeOnes_30 rfl hl (by decide) rfl (fun ls hl => ?_)
        obtain ⟨v31, ev31, hf⟩ := obd hf
        refine lv_iinc (v := v31) (lv' := [(2, .int v31), (1, .int v30), (0, .ref o)]) hx hb dX2_brokeOnes_31 hl (k := 2) rfl (iiE ev31 (by decide)) (by decide) rfl (fun ls hl => ?_)
        refine lv_goto (tgt := 4) hx hb dX2_brokeOnes_34 (by decide) ?_
        exact hk _ (Option.some.inj hf).symm H locs ls hI (lv_sub hl [2, 1, 0] rfl)
      · replace hf := ineg hc hf
        refine lv_iconst (v := (1 : Int32)) hx hb dX2_brokeOnes_22 (by decide) ?_
        refine lv_iload_n hx hb dX2_brokeOnes_23 rfl (lv_at hl 2 rfl) ?_
        refine lv_ishl hx hb dX2_brokeOnes_24 ?_
        refine lv_goto (tgt := 29) hx hb dX2_brokeOnes_25 (by decide) ?_
        refine lv_ior hx hb dX2_brokeOnes_29 ?_
        obtain ⟨v30_4, ev30_4, hf⟩ := obd hf
        refine nmI ev30_4 ?_
        refine lv_istore_n (lv' := [(1, .int v30_4), (0, .ref o), (2, .int w4.2)]) hx hb dX2_brokeOnes_30 rfl hl (by decide) rfl (fun ls hl => ?_)
        obtain ⟨v31_5, ev31_5, hf⟩ := obd hf
        refine lv_iinc (v := v31_5) (lv' := [(2, .int v31_5), (1, .int v30_4), (0, .ref o)]) hx hb dX2_brokeOnes_31 hl (k := 2) rfl (iiE ev31_5 (by decide)) (by decide) rfl (fun ls hl => ?_)
        refine lv_goto (tgt := 4) hx hb dX2_brokeOnes_34 (by decide) ?_
        exact hk _ (Option.some.inj hf).symm H locs ls hI (lv_sub hl [2, 1, 0] rfl)
  · skip
    intro H locs ls hI hl
    refine lv_iload_n hx hb dX2_brokeOnes_37 rfl (lv_at hl 0 rfl) ?_
    have hf := Option.some.inj hf
    rw [hf]
    exact hret H locs 38 ls hI dX2_brokeOnes_38

