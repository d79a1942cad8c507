/-! jdk/internal/util/ArraysSupport -/
set_option maxRecDepth 100000
def RJ8 : String := "jdk/internal/util/ArraysSupport"
abbrev cJ8_newLength : ByteArray := prog_59_method_27_code
def yJ8_newLength : MethodName := ⟨RJ8, "newLength", "(III)I"⟩
def dkwJ8_newLength_1 : List UInt8 := [184, 0, 201, 172]
abbrev dktJ8_newLength_1 : List UInt8 := dkwJ8_newLength_1 ++ []
def dkwJ8_newLength_0 : List UInt8 := [26, 27, 28, 184, 0, 194, 96, 62, 3, 29, 162, 0, 11, 29, 18, 200, 163, 0, 5, 29, 172, 26, 27]
abbrev dktJ8_newLength_0 : List UInt8 := dkwJ8_newLength_0 ++ dktJ8_newLength_1
theorem dksJ8_newLength_0 : cJ8_newLength.data.toList.drop 0 = dktJ8_newLength_0 := by decide +kernel
theorem dksJ8_newLength_1 : cJ8_newLength.data.toList.drop 23 = dktJ8_newLength_1 := dk_seg dksJ8_newLength_0 23 rfl rfl
theorem dJ8_newLength_0 : decode cJ8_newLength 0 = .ok (.iload_n 0, 1) := dk_26 (dk_at dksJ8_newLength_0 0 rfl rfl)
theorem dJ8_newLength_1 : decode cJ8_newLength 1 = .ok (.iload_n 1, 1) := dk_27 (dk_at dksJ8_newLength_0 1 rfl rfl)
theorem dJ8_newLength_2 : decode cJ8_newLength 2 = .ok (.iload_n 2, 1) := dk_28 (dk_at dksJ8_newLength_0 2 rfl rfl)
theorem dJ8_newLength_3 : decode cJ8_newLength 3 = .ok (.invokestatic 194, 3) := dk_184 0 194 (dk_at dksJ8_newLength_0 3 rfl rfl)
theorem dJ8_newLength_6 : decode cJ8_newLength 6 = .ok (.iadd, 1) := dk_96 (dk_at dksJ8_newLength_0 6 rfl rfl)
theorem dJ8_newLength_7 : decode cJ8_newLength 7 = .ok (.istore_n 3, 1) := dk_62 (dk_at dksJ8_newLength_0 7 rfl rfl)
theorem dJ8_newLength_8 : decode cJ8_newLength 8 = .ok (.iconst 0, 1) := dk_3 (dk_at dksJ8_newLength_0 8 rfl rfl)
theorem dJ8_newLength_9 : decode cJ8_newLength 9 = .ok (.iload_n 3, 1) := dk_29 (dk_at dksJ8_newLength_0 9 rfl rfl)
theorem dJ8_newLength_10 : decode cJ8_newLength 10 = .ok (.if_icmp .ge 11, 3) := dk_162 0 11 (dk_at dksJ8_newLength_0 10 rfl rfl)
theorem dJ8_newLength_13 : decode cJ8_newLength 13 = .ok (.iload_n 3, 1) := dk_29 (dk_at dksJ8_newLength_0 13 rfl rfl)
theorem dJ8_newLength_14 : decode cJ8_newLength 14 = .ok (.ldc 200, 2) := dk_18 200 (dk_at dksJ8_newLength_0 14 rfl rfl)
theorem dJ8_newLength_16 : decode cJ8_newLength 16 = .ok (.if_icmp .gt 5, 3) := dk_163 0 5 (dk_at dksJ8_newLength_0 16 rfl rfl)
theorem dJ8_newLength_19 : decode cJ8_newLength 19 = .ok (.iload_n 3, 1) := dk_29 (dk_at dksJ8_newLength_0 19 rfl rfl)
theorem dJ8_newLength_20 : decode cJ8_newLength 20 = .ok (.ireturn, 1) := dk_172 (dk_at dksJ8_newLength_0 20 rfl rfl)
theorem dJ8_newLength_21 : decode cJ8_newLength 21 = .ok (.iload_n 0, 1) := dk_26 (dk_at dksJ8_newLength_0 21 rfl rfl)
theorem dJ8_newLength_22 : decode cJ8_newLength 22 = .ok (.iload_n 1, 1) := dk_27 (dk_at dksJ8_newLength_0 22 rfl rfl)
theorem dJ8_newLength_23 : decode cJ8_newLength 23 = .ok (.invokestatic 201, 3) := dk_184 0 201 (dk_at dksJ8_newLength_1 0 rfl rfl)
theorem dJ8_newLength_26 : decode cJ8_newLength 26 = .ok (.ireturn, 1) := dk_172 (dk_at dksJ8_newLength_1 3 rfl rfl)
theorem q149 : (Jvm.Cond.initialized "jdk/internal/util/ArraysSupport") ∈ lw_all := lw_g (lw_at lw_m1 17 rfl) rfl
theorem q916 : (Jvm.Cond.static ({ cls := "jdk/internal/util/ArraysSupport", name := "newLength", desc := "(III)I" } : Jvm.MethodName)) ∈ lw_all := lw_g (lw_at lw_m4 64 rfl) rfl
theorem q917 : (Jvm.Cond.code ({ cls := "jdk/internal/util/ArraysSupport", name := "newLength", desc := "(III)I" } : Jvm.MethodName) prog_59_method_27_code (4 : Nat) (Option.some Jvm.ClassFile.FieldType.int)) ∈ lw_all := lw_g (lw_at lw_m4 65 rfl) rfl
theorem q918 : (Jvm.Cond.methodLink "jdk/internal/util/ArraysSupport" (194 : Nat) ({ cls := "java/lang/Math", name := "max", desc := "(II)I" } : Jvm.MethodName)) ∈ lw_all := lw_g (lw_at lw_m4 66 rfl) rfl
theorem q919 : (Jvm.Cond.constant "jdk/internal/util/ArraysSupport" (200 : Nat) (2147483639 : Int32)) ∈ lw_all := lw_g (lw_at lw_m4 67 rfl) rfl
theorem q920 : (Jvm.Cond.methodLink "jdk/internal/util/ArraysSupport" (201 : Nat) ({ cls := "jdk/internal/util/ArraysSupport", name := "hugeLength", desc := "(II)I" } : Jvm.MethodName)) ∈ lw_all := lw_g (lw_at lw_m4 68 rfl) rfl
theorem q921 : (Jvm.Cond.static ({ cls := "jdk/internal/util/ArraysSupport", name := "hugeLength", desc := "(II)I" } : Jvm.MethodName)) ∈ lw_all := lw_g (lw_at lw_m4 69 rfl) rfl
theorem q922 : (Jvm.Cond.code ({ cls := "jdk/internal/util/ArraysSupport", name := "hugeLength", desc := "(II)I" } : Jvm.MethodName) prog_59_method_28_code (3 : Nat) (Option.some Jvm.ClassFile.FieldType.int)) ∈ lw_all := lw_g (lw_at lw_m4 70 rfl) rfl
theorem q1235 : (Jvm.Cond.static ({ cls := "jdk/internal/util/ArraysSupport", name := "vectorizedHashCode", desc := "(Ljava/lang/Object;IIII)I" } : Jvm.MethodName)) ∈ lw_all := lw_g (lw_at lw_m5 143 rfl) rfl
theorem q1236 : (Jvm.Cond.code ({ cls := "jdk/internal/util/ArraysSupport", name := "vectorizedHashCode", desc := "(Ljava/lang/Object;IIII)I" } : Jvm.MethodName) prog_59_method_4_code (5 : Nat) (Option.some Jvm.ClassFile.FieldType.int)) ∈ lw_all := lw_g (lw_at lw_m5 144 rfl) rfl
theorem q1237 : (Jvm.Cond.classLink "jdk/internal/util/ArraysSupport" (60 : Nat) "[B") ∈ lw_all := lw_g (lw_at lw_m5 145 rfl) rfl
theorem q1238 : (Jvm.Cond.methodLink "jdk/internal/util/ArraysSupport" (62 : Nat) ({ cls := "jdk/internal/util/ArraysSupport", name := "signedHashCode", desc := "(I[BII)I" } : Jvm.MethodName)) ∈ lw_all := lw_g (lw_at lw_m5 146 rfl) rfl
theorem q1239 : (Jvm.Cond.static ({ cls := "jdk/internal/util/ArraysSupport", name := "signedHashCode", desc := "(I[BII)I" } : Jvm.MethodName)) ∈ lw_all := lw_g (lw_at lw_m5 147 rfl) rfl
theorem q1240 : (Jvm.Cond.code ({ cls := "jdk/internal/util/ArraysSupport", name := "signedHashCode", desc := "(I[BII)I" } : Jvm.MethodName) prog_59_method_5_code (6 : Nat) (Option.some Jvm.ClassFile.FieldType.int)) ∈ lw_all := lw_g (lw_at lw_m5 148 rfl) rfl
theorem q1241 : (Jvm.Cond.methodLink "jdk/internal/util/ArraysSupport" (66 : Nat) ({ cls := "jdk/internal/util/ArraysSupport", name := "utf16hashCode", desc := "(I[BII)I" } : Jvm.MethodName)) ∈ lw_all := lw_g (lw_at lw_m5 149 rfl) rfl
theorem q1242 : (Jvm.Cond.static ({ cls := "jdk/internal/util/ArraysSupport", name := "utf16hashCode", desc := "(I[BII)I" } : Jvm.MethodName)) ∈ lw_all := lw_g (lw_at lw_m5 150 rfl) rfl
theorem q1243 : (Jvm.Cond.code ({ cls := "jdk/internal/util/ArraysSupport", name := "utf16hashCode", desc := "(I[BII)I" } : Jvm.MethodName) prog_59_method_10_code (6 : Nat) (Option.some Jvm.ClassFile.FieldType.int)) ∈ lw_all := lw_g (lw_at lw_m5 151 rfl) rfl
theorem q1244 : (Jvm.Cond.fieldLink "jdk/internal/util/ArraysSupport" (106 : Nat) "jdk/internal/util/ArraysSupport" "JLA" "Ljdk/internal/access/JavaLangAccess;") ∈ lw_all := lw_g (lw_at lw_m5 152 rfl) rfl
theorem q1245 : (Jvm.Cond.laysStatic "jdk/internal/util/ArraysSupport" "JLA" "Ljdk/internal/access/JavaLangAccess;") ∈ lw_tbl := lw_at lw_m5 153 rfl
theorem q1246 : (Jvm.Cond.interfaceEntry "jdk/internal/util/ArraysSupport" (110 : Nat)) ∈ lw_tbl := lw_at lw_m5 154 rfl
theorem q1247 : (Jvm.Cond.methodLink "jdk/internal/util/ArraysSupport" (110 : Nat) ({ cls := "jdk/internal/access/JavaLangAccess", name := "getUTF16Char", desc := "([BI)C" } : Jvm.MethodName)) ∈ lw_all := lw_g (lw_at lw_m5 155 rfl) rfl
theorem q1257 : (Jvm.Cond.classLink "jdk/internal/util/ArraysSupport" (69 : Nat) "[C") ∈ lw_all := lw_g (lw_at lw_m5 165 rfl) rfl
theorem q1258 : (Jvm.Cond.methodLink "jdk/internal/util/ArraysSupport" (71 : Nat) ({ cls := "jdk/internal/util/ArraysSupport", name := "hashCode", desc := "(I[CII)I" } : Jvm.MethodName)) ∈ lw_all := lw_g (lw_at lw_m5 166 rfl) rfl
theorem q1259 : (Jvm.Cond.static ({ cls := "jdk/internal/util/ArraysSupport", name := "hashCode", desc := "(I[CII)I" } : Jvm.MethodName)) ∈ lw_all := lw_g (lw_at lw_m5 167 rfl) rfl
theorem q1260 : (Jvm.Cond.code ({ cls := "jdk/internal/util/ArraysSupport", name := "hashCode", desc := "(I[CII)I" } : Jvm.MethodName) prog_59_method_7_code (6 : Nat) (Option.some Jvm.ClassFile.FieldType.int)) ∈ lw_all := lw_g (lw_at lw_m5 168 rfl) rfl
theorem q1261 : (Jvm.Cond.methodLink "jdk/internal/util/ArraysSupport" (75 : Nat) ({ cls := "jdk/internal/util/ArraysSupport", name := "hashCode", desc := "(I[BII)I" } : Jvm.MethodName)) ∈ lw_all := lw_g (lw_at lw_m5 169 rfl) rfl
theorem q1262 : (Jvm.Cond.static ({ cls := "jdk/internal/util/ArraysSupport", name := "hashCode", desc := "(I[BII)I" } : Jvm.MethodName)) ∈ lw_all := lw_g (lw_at lw_m5 170 rfl) rfl
theorem q1263 : (Jvm.Cond.code ({ cls := "jdk/internal/util/ArraysSupport", name := "hashCode", desc := "(I[BII)I" } : Jvm.MethodName) prog_59_method_6_code (6 : Nat) (Option.some Jvm.ClassFile.FieldType.int)) ∈ lw_all := lw_g (lw_at lw_m5 171 rfl) rfl
theorem q1264 : (Jvm.Cond.classLink "jdk/internal/util/ArraysSupport" (77 : Nat) "[S") ∈ lw_all := lw_g (lw_at lw_m5 172 rfl) rfl
theorem q1265 : (Jvm.Cond.methodLink "jdk/internal/util/ArraysSupport" (79 : Nat) ({ cls := "jdk/internal/util/ArraysSupport", name := "hashCode", desc := "(I[SII)I" } : Jvm.MethodName)) ∈ lw_all := lw_g (lw_at lw_m5 173 rfl) rfl
theorem q1266 : (Jvm.Cond.static ({ cls := "jdk/internal/util/ArraysSupport", name := "hashCode", desc := "(I[SII)I" } : Jvm.MethodName)) ∈ lw_all := lw_g (lw_at lw_m5 174 rfl) rfl
theorem q1267 : (Jvm.Cond.code ({ cls := "jdk/internal/util/ArraysSupport", name := "hashCode", desc := "(I[SII)I" } : Jvm.MethodName) prog_59_method_8_code (6 : Nat) (Option.some Jvm.ClassFile.FieldType.int)) ∈ lw_all := lw_g (lw_at lw_m5 175 rfl) rfl
theorem q1268 : (Jvm.Cond.classLink "jdk/internal/util/ArraysSupport" (82 : Nat) "[I") ∈ lw_all := lw_g (lw_at lw_m5 176 rfl) rfl
theorem q1269 : (Jvm.Cond.methodLink "jdk/internal/util/ArraysSupport" (84 : Nat) ({ cls := "jdk/internal/util/ArraysSupport", name := "hashCode", desc := "(I[III)I" } : Jvm.MethodName)) ∈ lw_all := lw_g (lw_at lw_m5 177 rfl) rfl
theorem q1270 : (Jvm.Cond.static ({ cls := "jdk/internal/util/ArraysSupport", name := "hashCode", desc := "(I[III)I" } : Jvm.MethodName)) ∈ lw_all := lw_g (lw_at lw_m5 178 rfl) rfl
theorem q1271 : (Jvm.Cond.code ({ cls := "jdk/internal/util/ArraysSupport", name := "hashCode", desc := "(I[III)I" } : Jvm.MethodName) prog_59_method_9_code (6 : Nat) (Option.some Jvm.ClassFile.FieldType.int)) ∈ lw_all := lw_g (lw_at lw_m5 179 rfl) rfl
theorem q1272 : (Jvm.Cond.classLink "jdk/internal/util/ArraysSupport" (87 : Nat) "java/lang/IllegalArgumentException") ∈ lw_all := lw_g (lw_at lw_m5 180 rfl) rfl
theorem q1273 : (Jvm.Cond.classLink "jdk/internal/util/ArraysSupport" (89 : Nat) "java/lang/StringBuilder") ∈ lw_all := lw_g (lw_at lw_m5 181 rfl) rfl
theorem q1274 : (Jvm.Cond.methodLink "jdk/internal/util/ArraysSupport" (91 : Nat) ({ cls := "java/lang/StringBuilder", name := "<init>", desc := "()V" } : Jvm.MethodName)) ∈ lw_all := lw_g (lw_at lw_m5 182 rfl) rfl
theorem q1275 : (Jvm.Cond.stringRef "jdk/internal/util/ArraysSupport" (92 : Nat) "unrecognized basic type: ") ∈ lw_tbl := lw_at lw_m5 183 rfl
theorem q1276 : (Jvm.Cond.methodLink "jdk/internal/util/ArraysSupport" (94 : Nat) ({ cls := "java/lang/StringBuilder", name := "append", desc := "(Ljava/lang/String;)Ljava/lang/StringBuilder;" } : Jvm.MethodName)) ∈ lw_all := lw_g (lw_at lw_m5 184 rfl) rfl
theorem q1277 : (Jvm.Cond.methodLink "jdk/internal/util/ArraysSupport" (98 : Nat) ({ cls := "java/lang/StringBuilder", name := "append", desc := "(I)Ljava/lang/StringBuilder;" } : Jvm.MethodName)) ∈ lw_all := lw_g (lw_at lw_m5 185 rfl) rfl
theorem q1278 : (Jvm.Cond.methodLink "jdk/internal/util/ArraysSupport" (101 : Nat) ({ cls := "java/lang/StringBuilder", name := "toString", desc := "()Ljava/lang/String;" } : Jvm.MethodName)) ∈ lw_all := lw_g (lw_at lw_m5 186 rfl) rfl
theorem q1279 : (Jvm.Cond.methodLink "jdk/internal/util/ArraysSupport" (105 : Nat) ({ cls := "java/lang/IllegalArgumentException", name := "<init>", desc := "(Ljava/lang/String;)V" } : Jvm.MethodName)) ∈ lw_all := lw_g (lw_at lw_m5 187 rfl) rfl

/-! LISTS: java.util.ArrayList as the JDK's own code; arrays of references by one cell -/
def qc (cA : ClassId) (n : Nat) (f : Nat → Option Nat) : va_E := .inl (cA, n, .inr (.inr (.inr (.inr f))))
/-- an object that an Object[] may hold -/
def OA (s : State) (H : Heap) (v : Nat) : Prop := va_Any "java/lang/Object" s H v
theorem OA.mv {s U : State} {H H1 : Heap} {v : Nat} (h : OA s H v) (ha : s.vm.Alike U.vm) (hq : H1[v]? = H[v]?) : OA U H1 v := by
  obtain ⟨cell, h1, h2, ⟨kC, h3⟩, h4⟩ := h
  obtain ⟨kC', h5, -⟩ := ha.2.2 _ _ h3
  exact ⟨cell, by rw [hq]; exact h1, h2, ⟨kC', h5⟩, fun comp hc => by rw [ha.assignable]; exact h4 comp (by rw [← ha.findClass]; exact hc)⟩
theorem OA.lt {s : State} {H : Heap} {v : Nat} (h : OA s H v) : v < H.size := by
  obtain ⟨cell, h1, -⟩ := h
  exact (Array.getElem?_eq_some_iff.mp h1).1
section QCELL
variable {p : Program} {l : Launch} {e : Env} {R : Room} {s : State} {m : MethodId} {args : Array Value} {below : List Frame} {meth : Method} {c : Code} {H : Heap} {locs : List Loc} {cells slots : Nat} {Q : State → Prop}
variable {cc : ByteArray} {pc : Nat} {ls : Array Slot} {rest : List Value} {D : va_G} {cl : List vw_C} {a : Nat} {tys : List (ClassId × FieldType)}
/-- an object of a class that the tables call castable to Object -/
theorem OA.of {tys : List (ClassId × FieldType)} {v ci N : Nat} {fs : List Value} {C : String} {T : u_T} (hK : va_K D cl tys s) (hat : va_at D cl (v, .inr (ci, fs)) H) (hc : cl[ci]? = some (C, T, N)) (hca : va_Nw (.castable C "java/lang/Object") s) : OA s H v := by
  refine va_rAny hK (va_P1 hat) (q0 := 0) rfl hc (fun comp c0 h1 h2 => ?_)
  obtain ⟨c3, c4, hc3, hc4, hasg⟩ := Cond.castable_spec (va_Nw.use (A := #[]) rfl hca)
  cases Option.some.inj (hc3.symm.trans h2)
  cases Option.some.inj (hc4.symm.trans h1)
  exact hasg
theorem ggetR (hx : p.tables.exec = Jvm.exec) (hb : c.code = cc) (hts : ∀ w ∈ lw_all, w.before args s = true) {own ref C : String} {T : u_T} {N ci index : Nat} {fs : List Value} (hin : ∀ w ∈ u_ws C T N, w ∈ lw_all) (hown : s.vm.findClass own = some m.cls) (hK : va_K D cl tys s) (hat : va_at D cl (a, .inr (ci, fs)) H) (hc : cl[ci]? = some (C, T, N)) (k : Nat) (hk : k < N) (hl : Cond.fieldLink own index ref (T k).2.1 (T k).2.2.1 ∈ lw_all) (hsame : ∀ x, s.fieldFound? (T k).1 (T k).2.1 (T k).2.2.1 = some x → s.fieldFound? ref (T k).2.1 (T k).2.2.1 = some x) {v : Value} (hv : fs[k]? = some v) (hdg : decode cc pc = .ok (.getfield index, 3))
    (kk : W p l e R s m args below meth c H locs cells slots Q (F0 m (pc + 3) ls (v :: rest))) : W p l e R s m args below meth c H locs cells slots Q (F0 m pc ls (.ref a :: rest)) :=
  va_get (ref := ref) hx hb hts hin hown hK (va_P1 hat) 0 rfl hc k hk (hts _ hl) hsame hv hdg kk
theorem gputR (hx : p.tables.exec = Jvm.exec) (hb : c.code = cc) (hts : ∀ w ∈ lw_all, w.before args s = true) {own ref C : String} {T : u_T} {N ci index : Nat} {fs : List Value} (hin : ∀ w ∈ u_ws C T N, w ∈ lw_all) (ty0 : Nat → FieldType) (hty : ∀ k, k < N → parseFieldDescriptor (T k).2.2.1 = some (ty0 k)) (hnm : ∀ a, a < N → ∀ b, b < N → a ≠ b → (T a).2.1 ≠ (T b).2.1) (hown : s.vm.findClass own = some m.cls) (hK : va_K D cl tys s) (hat : va_at D cl (a, .inr (ci, fs)) H) (hc : cl[ci]? = some (C, T, N)) (k : Nat) (hk : k < N) (hl : Cond.fieldLink own index ref (T k).2.1 (T k).2.2.1 ∈ lw_all) (hsame : ∀ x, s.fieldFound? (T k).1 (T k).2.1 (T k).2.2.1 = some x → s.fieldFound? ref (T k).2.1 (T k).2.2.1 = some x) (hfin : (T k).2.2.2 = false) {v : Value} (hn : narrow (ty0 k) v = v) (hfit : fits (ty0 k) v = true) (hll : k < fs.length)
    (hdg : decode cc pc = .ok (.putfield index, 3)) (kk : ∀ (H1 : Heap) (locs1 : List Loc), va_at D cl (a, .inr (ci, fs.set k v)) H1 → H1.size = H.size → (∀ q : Nat, q ≠ a → H1[q]? = H[q]?) → (∀ l ∈ locs1, l ∈ locs ∨ l.base = a) → W p l e R s m args below meth c H1 locs1 cells slots Q (F0 m (pc + 3) ls rest)) : W p l e R s m args below meth c H locs cells slots Q (F0 m pc ls (v :: .ref a :: rest)) := by
  have hap := va_apart (own := own) hts hin ty0 hty hnm hK hc
  obtain ⟨r, h1, cell, q1, q2, q3, q4⟩ := hat
  have hr : r = (C, T, N) := Option.some.inj (h1.symm.trans hc)
  subst hr
  obtain ⟨hS, hfc, kC, hkC, hkind⟩ := hK.1 ci _ hc
  obtain ⟨cf, kf, fi, f, hi, hsl⟩ := hS k hk
  have hlay := hts _ (hin _ (u_in_lay hk))
  unfold u_lay at hlay
  rw [if_neg (by rw [hfin]; decide)] at hlay
  have hst := (u_facts hfc hkC (u_lays hts hin hk) hi).1
  have h6 := u_store hfc hkC hkind hlay hi (hty k hk) hn hfit
  refine W.putK hx hb (f := f) ⟨hown, hts _ hl, ⟨_, _, _, hsame _ hi⟩, hst⟩ (by rw [q2]; exact h6) q1 q3 (by rw [hsl]; exact k2_hasslot (q4 k hk)) rfl rfl hdg fun H' e1 e2 e3 => ?_
  rw [hsl] at e1 ⊢
  refine kk H' _ ⟨_, hc, t_OB.to (V := updV (vp_V fs) k v) ⟨_, e1, q2, q3, t_set q4 hap hk v⟩ (fun j _ => vp_updV_set hll v j)⟩ e2 e3 (fun l hl9 => ?_)
  rcases List.mem_append.mp hl9 with h | h
  · exact Or.inl h
  · right
    rw [List.mem_singleton.mp h]
theorem gqld (hx : p.tables.exec = Jvm.exec) (hb : c.code = cc) (hK : va_K D cl tys s) (t0 : Nat) {cA : ClassId} {C : String} {n : Nat} {f : Nat → Option Nat} (hat : va_at D cl (a, qc cA n f) H) (ht : tys[t0]? = some (cA, .object C)) {i : Int32} (hin : vp_in i n) (hdg : decode cc pc = .ok (.aaload, 1))
    (kk : W p l e R s m args below meth c H locs cells slots Q (F0 m (pc + 1) ls (va_rf (f i.toNatClampNeg) :: rest))) : W p l e R s m args below meth c H locs cells slots Q (F0 m pc ls (.int i :: .ref a :: rest)) :=
  va_aldq hx hb hK (va_P1 hat) 0 t0 rfl ht hin hdg kk
theorem gqst (hx : p.tables.exec = Jvm.exec) (hb : c.code = cc) (hK : va_K D cl tys s) (t0 : Nat) {cA : ClassId} {E : String} {n v : Nat} {f : Nat → Option Nat} (hat : va_at D cl (a, qc cA n f) H) (ht : tys[t0]? = some (cA, .object E)) (hr : va_Any E s H v) {i : Int32} (hin : vp_in i n) (hdg : decode cc pc = .ok (.aastore, 1))
    (kk : ∀ (H1 : Heap) (locs1 : List Loc), va_at D cl (a, qc cA n (va_up f i.toNatClampNeg (some v))) H1 → H1.size = H.size → (∀ q : Nat, q ≠ a → H1[q]? = H[q]?) → (∀ l ∈ locs1, l ∈ locs ∨ l.base = a) → W p l e R s m args below meth c H1 locs1 cells slots Q (F0 m (pc + 1) ls rest)) : W p l e R s m args below meth c H locs cells slots Q (F0 m pc ls (.ref v :: .int i :: .ref a :: rest)) := by
  have hlt : i.toNatClampNeg < n := Nat.not_le.mp fun q => hin (Or.inr q)
  have h0 : ¬ i < 0 := fun q => hin (Or.inl q)
  obtain ⟨cellV, g1, g3, ⟨kC, hkC⟩, hasg⟩ := hr
  obtain ⟨kA, comp, k1, k2, k3, -⟩ := (hK.2 t0 _ ht).2
  obtain ⟨kE, hkE, -⟩ := Vm.findClass_spec k3
  refine W.aast hx hb hat (fun q h => by cases h) (fun h => by cases h) k1 k2 rfl hkE ⟨h0, by show _ < (arrV _ _ _).slots.size; rw [arrV_size]; exact hlt⟩ g1 (fun q h => by rw [h] at g3; cases g3) hkC (hasg _ k3) rfl rfl hdg fun H1 e z oq => ?_
  refine kk H1 _ ?_ z oq loc1
  show H1[a]? = some (vp_cell _ _)
  rw [e]
  rw [vp_cell_q, vp_cell_q, arrV_store]
  congr 2
  funext q
  by_cases hq : q = i.toNatClampNeg
  · subst hq
    simp [updV, va_up, va_rf]
  · simp [updV, va_up, hq]
theorem gqstN (hx : p.tables.exec = Jvm.exec) (hb : c.code = cc) (hK : va_K D cl tys s) (t0 : Nat) {cA : ClassId} {C : String} {n : Nat} {f : Nat → Option Nat} (hat : va_at D cl (a, qc cA n f) H) (ht : tys[t0]? = some (cA, .object C)) {i : Int32} (hin : vp_in i n) (hdg : decode cc pc = .ok (.aastore, 1))
    (kk : ∀ (H1 : Heap) (locs1 : List Loc), va_at D cl (a, qc cA n (va_up f i.toNatClampNeg none)) H1 → H1.size = H.size → (∀ q : Nat, q ≠ a → H1[q]? = H[q]?) → (∀ l ∈ locs1, l ∈ locs ∨ l.base = a) → W p l e R s m args below meth c H1 locs1 cells slots Q (F0 m (pc + 1) ls rest)) : W p l e R s m args below meth c H locs cells slots Q (F0 m pc ls (.null :: .int i :: .ref a :: rest)) := by
  refine va_WaastN (C := C) hx hb hat ((hK.2 t0 _ ht).1 n (fun j => va_rf (f j))) (fun h => by cases h) (by show ¬ (i < 0 ∨ (arrV _ _ _).slots.size ≤ _); rw [arrV_size]; exact hin) rfl rfl hdg fun H1 e z oq => ?_
  refine kk H1 _ ?_ z oq loc1
  show H1[a]? = some (vp_cell _ _)
  rw [e]
  rw [vp_cell_q, vp_cell_q, arrV_store]
  congr 2
  funext q
  by_cases hq : q = i.toNatClampNeg
  · subst hq
    simp [updV, va_up, va_rf]
  · simp [updV, va_up, hq]
theorem gqcopy (hx : p.tables.exec = Jvm.exec) (hb : c.code = cc) (hml : c.maxLocals = ls.size) (hts : ∀ w ∈ lw_all, w.before args s = true) {own : String} (hown : s.vm.findClass own = some m.cls) (hK : va_K D cl tys s) (t0 : Nat) {index a0 n0 n1 : Nat} {cA : ClassId} {f g : Nat → Option Nat} {E1 : String} {sp dp n : Int32} (hlk : Cond.methodLink own index arraycopyName ∈ lw_all) (h0 : va_at D cl (a0, qc cA n0 f) H) (h1 : va_at D cl (a, qc cA n1 g) H) (ht : tys[t0]? = some (cA, .object E1))
    (g1 : ¬ sp < 0) (g2 : ¬ dp < 0) (g3 : ¬ n < 0) (h4 : sp.toNatClampNeg + n.toNatClampNeg ≤ n0) (h5 : dp.toNatClampNeg + n.toNatClampNeg ≤ n1) (hel : ∀ i : Nat, i < n.toNatClampNeg → ∀ y : Nat, f (sp.toNatClampNeg + i) = some y → va_Any E1 s H y) (hframes : 1 ≤ R.frames) (hlocals : (rest.map fun v => v.category).sum + (nativeFrameWords "java/lang/System" "arraycopy" 5 + 11) ≤ R.locals) (hdg : decode cc pc = .ok (.invokestatic index, 3))
    (kk : ∀ (H1 : Heap) (locs1 : List Loc), va_at D cl (a, qc cA n1 (va_cpy f g sp.toNatClampNeg dp.toNatClampNeg n.toNatClampNeg)) H1 → H1.size = H.size → (∀ q : Nat, q ≠ a → H1[q]? = H[q]?) → (∀ l ∈ locs1, l ∈ locs ∨ l.base = a) → W p l e R s m args below meth c H1 locs1 cells slots Q (F0 m (pc + 3) ls rest)) : W p l e R s m args below meth c H locs cells slots Q (F0 m pc ls (.int n :: .int dp :: .ref a :: .int sp :: .ref a0 :: rest)) := by
  have nn : ∀ z : Int32, ¬ z < 0 → z.toInt = (z.toNatClampNeg : Int) := by
    intro z hz
    have hz0 : (0 : Int) ≤ z.toInt := by
      have := Int32.not_lt.mp hz
      simpa using Int32.le_iff_toInt_le.mp this
    show z.toInt = ((z.toInt.toNat : Nat) : Int)
    omega
  intro T hT X
  have hc0 : H[a0]? = some (vp_cell cA (n0, .inr (.inr (.inr (.inr f))))) := h0
  have hc1 : H[a]? = some (vp_cell cA (n1, .inr (.inr (.inr (.inr g))))) := h1
  obtain ⟨-, k0, hk0, cm0, hkk0⟩ := (hK.2 t0 _ ht).1 n0 (fun j => va_rf (f j))
  obtain ⟨-, k1, hk1, cm1, hkk1⟩ := (hK.2 t0 _ ht).1 n1 (fun j => va_rf (g j))
  obtain ⟨vm', X', step⟩ := X.arraycopy hx hown (hts _ hlk) (hts _ q570) (hts _ q569) (hts _ q144) (src := a0) (dst := a) (cs := vp_cell cA (n0, .inr (.inr (.inr (.inr f))))) (cd := vp_cell cA (n1, .inr (.inr (.inr (.inr g))))) (srcPos := sp) (destPos := dp) (n := n) (by rw [hT]; exact hc0) (by rw [hT]; exact hc1)
    (fun _ h => by cases h) (fun _ h => by cases h) (fun h => by cases h) (fun h => by cases h) hk0 hk1 hkk0 hkk1 rfl g1 g2 g3
    (by rw [nn sp g1, nn n g3]; show ¬ _ > ((arrV cA n0 (fun j => va_rf (f j))).slots.size : Int); rw [arrV_size]; omega)
    (by rw [nn dp g2, nn n g3]; show ¬ _ > ((arrV cA n1 (fun j => va_rf (g j))).slots.size : Int); rw [arrV_size]; omega)
    (fun vm₁ hal i hi => by
      have e : (vp_cell cA (n0, .inr (.inr (.inr (.inr f))))).slots.getD (sp.toNatClampNeg + i) .null = va_rf (f (sp.toNatClampNeg + i)) := by
        show (arrV cA n0 (fun j => va_rf (f j))).slots.getD _ _ = _
        rw [Array.getD_eq_getD_getElem?, arrV_read _ _ (by omega)]
        rfl
      rw [e]
      cases hy : f (sp.toNatClampNeg + i) with
      | none => exact ⟨rfl, trivial⟩
      | some y =>
        obtain ⟨cellV, b1, b2, ⟨kC, hkC⟩, hasg⟩ := hel i hi y hy
        obtain ⟨kA, comp, r1, r2, r3, -⟩ := (hK.2 t0 _ ht).2
        cases hk1.symm.trans r1
        cases hkk1.symm.trans r2
        obtain ⟨kE, hkE, -⟩ := Vm.findClass_spec r3
        obtain ⟨kC', hkC', -⟩ := hal.2.2 _ _ hkC
        obtain ⟨kE', hkE', -⟩ := hal.2.2 _ _ hkE
        refine ⟨rfl, cellV, (show T.heap[y]? = some cellV by rw [hT]; exact b1), (fun q h => by rw [h] at b2; cases b2), ⟨kC', hkC'⟩, ?_, ?_⟩
        · exact ⟨kE', hkE'⟩
        · show vm₁.assignable _ _ = true
          rw [hal.assignable]
          exact hasg _ r3)
    (g := F0 m pc ls (.int n :: .int dp :: .ref a :: .int sp :: .ref a0 :: rest)) rfl (by rw [hml]) (rest := rest) rfl (by rw [hb]; exact hdg) hframes (by show 2 * 0 + _ + _ ≤ _; omega)
  have e1 : copied (vp_cell cA (n0, .inr (.inr (.inr (.inr f))))) (vp_cell cA (n1, .inr (.inr (.inr (.inr g))))) sp dp n = vp_cell cA (n1, .inr (.inr (.inr (.inr (va_cpy f g sp.toNatClampNeg dp.toNatClampNeg n.toNatClampNeg))))) := by
    rw [vp_cell_q, vp_cell_q, vp_cell_q]
    exact va_copied (fun z => va_rf z) cA cA f g h4
  rw [e1] at X' step
  have hl : a < H.size := (Array.getElem?_eq_some_iff.mp hc1).1
  have hheap : ((T.setVm vm').setCell a (vp_cell cA (n1, .inr (.inr (.inr (.inr (va_cpy f g sp.toNatClampNeg dp.toNatClampNeg n.toNatClampNeg))))))).heap = H.setIfInBounds a (vp_cell cA (n1, .inr (.inr (.inr (.inr (va_cpy f g sp.toNatClampNeg dp.toNatClampNeg n.toNatClampNeg)))))) := by rw [← hT]; rfl
  have oq : ∀ q : Nat, q ≠ a → (H.setIfInBounds a (vp_cell cA (n1, .inr (.inr (.inr (.inr (va_cpy f g sp.toNatClampNeg dp.toNatClampNeg n.toNatClampNeg)))))))[q]? = H[q]? := fun q hq => by simp [Array.getElem?_setIfInBounds, Ne.symm hq]
  obtain ⟨t, a1, b1⟩ := kk _ _ (show (H.setIfInBounds a _)[a]? = some _ by simp [Array.getElem?_setIfInBounds, hl]) (by simp) oq (fun l h9 => by
      rcases List.mem_append.mp h9 with h | h
      · exact Or.inl h
      · obtain ⟨z, -, hz⟩ := List.mem_map.mp h
        right
        rw [← hz]) _ hheap X'
  exact ⟨t, step t a1, b1⟩
theorem gqnew (hx : p.tables.exec = Jvm.exec) (hb : c.code = cc) (hts : ∀ w ∈ lw_all, w.before args s = true) {own C : String} {index : Nat} (hown : s.vm.findClass own = some m.cls) (hcl : Cond.classLink own index C ∈ lw_all) (hover : va_AO C s) (hK : va_K D cl tys s) (t0 : Nat) {cA : ClassId} (ht : tys[t0]? = some (cA, .object C))
    {n : Int32} {N' : Nat} (hn : ¬ n < 0) (hN : n.toNatClampNeg = N') (hbytes : N' * 4 ≤ 536870912) {h : Nat} (hh : H.size = h) (hcells : cells + 1 ≤ R.cells) (hslots : slots + N' ≤ R.slots) (hdg : decode cc pc = .ok (.anewarray index, 3))
    (kk : ∀ H1 : Heap, va_at D cl (h, qc cA N' (fun _ => none)) H1 → H1.size = h + 1 → (∀ q : Nat, q < h → H1[q]? = H[q]?) → W p l e R s m args below meth c H1 locs (cells + 1) (slots + N') Q (F0 m (pc + 3) ls (.ref h :: rest))) : W p l e R s m args below meth c H locs cells slots Q (F0 m pc ls (.int n :: rest)) := by
  subst hN
  subst hh
  obtain ⟨kA0, comp0, r1, r2, r3, r4⟩ := (hK.2 t0 _ ht).2
  refine W.anew hx hb hown (hts _ hcl) (va_AO.use hover) rfl hdg rfl hn hbytes hcells hslots fun cB kA comp f1 f2 f3 f4 => ?_
  have : cB = cA := Option.some.inj (f1.symm.trans r4)
  subst this
  generalize hH1 : H.push ({ cls := cB, slots := Array.replicate n.toNatClampNeg .null, vm := .none } : Cell) = H1
  have z1 : H1.size = H.size + 1 := by rw [← hH1, Array.size_push]
  have e1 : H1[H.size]? = some (arrV cB n.toNatClampNeg (fun _ => .null)) := by rw [← hH1, Array.getElem?_push_size, ← arrV_new]
  have o1 : ∀ q : Nat, q < H.size → H1[q]? = H[q]? := fun q hq => by rw [← hH1, Array.getElem?_push, if_neg (Nat.ne_of_lt hq)]
  refine kk H1 ?_ z1 o1
  show H1[H.size]? = some (vp_cell _ _)
  rw [vp_cell_q]
  exact e1
end QCELL

/-- what the lists' code asks of the tables and of old cells -/
def EQ (aK aV : Nat → Nat) (e0 mi : Nat) (D : va_G) (J : Nat → ClassId) (z : Nat) (U : State) : Prop := EM aK aV e0 D J z U ∧ va_AO "java/lang/Object" U ∧ va_Mi "[Ljava/lang/Object;" mi U ∧ va_Dc U
theorem EQ.go {aK aV : Nat → Nat} {e0 mi : Nat} {D : va_G} {J : Nat → ClassId} {z : Nat} {s U : State} (h : EQ aK aV e0 mi D J z s) (hW : s.WarmedH U.vm) (hq : ∀ q : Nat, q < s.heap.size → ¬ z ≤ q → U.heap[q]? = s.heap[q]?) : EQ aK aV e0 mi D J z U := ⟨h.1.go hW hq, h.2.1.moved hW.alike, h.2.2.1.moved hW.alike, h.2.2.2.moved hW.alike⟩
def mxI (b c : Int32) : Int32 := if b < c then c else b
/-- the next capacity -/
def gcap (cap : Nat) : Nat := if cap = 0 then 10 else cap + (if 1 < cap / 2 then cap / 2 else 1)
theorem gcap_gt (cap : Nat) : cap < gcap cap := by
  unfold gcap
  split
  · omega
  · split <;> omega
theorem cpy0 {α : Type} {f g : Nat → α} {sp dp : Nat} : va_cpy f g sp dp 0 = g := by
  funext j
  unfold va_cpy
  rw [if_neg (by omega)]
/-- all elements of a list may lie in an Object[] -/
def OAs (s : State) (H : Heap) (n : Nat) (f : Nat → Option Nat) : Prop := ∀ i, i < n → ∀ y, f i = some y → OA s H y
theorem OAs.mv {s U : State} {H H1 : Heap} {n : Nat} {f : Nat → Option Nat} (h : OAs s H n f) (ha : s.vm.Alike U.vm) (hq : ∀ i, i < n → ∀ y, f i = some y → H1[y]? = H[y]?) : OAs U H1 n f := fun i hi y hy => (h i hi y hy).mv ha (hq i hi y hy)
theorem gcap_lt (n : Nat) (h : n < 2 ^ 19) : gcap n < 2 ^ 20 := by
  unfold gcap
  split
  · decide
  · split <;> omega
theorem mJ8_newLength (a b d : Int32) (h0 : 0 < a + mxI b d) (h1 : ¬ (2147483639 : Int32) < a + mxI b d) : SMi yJ8_newLength cJ8_newLength 4 (some .int) 2 100 [.int a, .int b, .int d] (a + mxI b d) := by
  refine SMi.of (by decide) (Nat.le_of_ble_eq_true rfl) ?_
  intro p l e s m args below meth c Q ls hx hb hml hown hts hret hl
  have hl : lv_has ls 4 [(0, .int a), (1, .int b), (2, .int d)] := hl
  refine lv_iload_n hx hb dJ8_newLength_0 rfl (lv_at hl 0 rfl) ?_
  refine lv_iload_n hx hb dJ8_newLength_1 rfl (lv_at hl 1 rfl) ?_
  refine lv_iload_n hx hb dJ8_newLength_2 rfl (lv_at hl 2 rfl) ?_
  refine va_mmax hx hb (hml.trans hl.1.symm) hown (hts _ q918) (hts _ q679) (hts _ q150) (hts _ q680) (Nat.le_of_ble_eq_true rfl) (Nat.le_of_ble_eq_true rfl) (Nat.le_of_ble_eq_true rfl) (Nat.le_of_ble_eq_true rfl) dJ8_newLength_3 ?_
  refine lv_iadd hx hb dJ8_newLength_6 ?_
  refine lv_istore_n (lv' := [(3, .int (a + (mxI b d))), (0, .int a), (1, .int b), (2, .int d)]) hx hb dJ8_newLength_7 rfl hl (by decide) rfl (fun ls hl => ?_)
  refine lv_iconst (v := (0 : Int32)) hx hb dJ8_newLength_8 (by decide) ?_
  refine lv_iload_n hx hb dJ8_newLength_9 rfl (lv_at hl 0 rfl) ?_
  refine lv_icmp_ge (tgt := 21) hx hb dJ8_newLength_10 (by decide) (fun hc => absurd hc (Int32.not_le.mpr h0)) (fun hc => ?_)
  refine lv_iload_n hx hb dJ8_newLength_13 rfl (lv_at hl 0 rfl) ?_
  refine lv_ldc hx hb hown (hts _ q919) dJ8_newLength_14 ?_
  refine lv_icmp_gt (tgt := 21) hx hb dJ8_newLength_16 (by decide) (fun hc => absurd hc h1) (fun hc => ?_)
  refine lv_iload_n hx hb dJ8_newLength_19 rfl (lv_at hl 0 rfl) ?_
  exact hret 20 ls dJ8_newLength_20
set_option maxHeartbeats 4000000 in
theorem mJ0_copyOf_3 : ∀ (l : Launch) (D : va_G) (J : Nat → ClassId) (z : Nat) (aK aV : Nat → Nat) (e0 mi : Nat) (a0 n0 N sz : Nat) (f : Nat → Option Nat), n0 ≤ N → N < 2 ^ 20 → z ≤ sz → Met l yJ0_copyOf_3 (ws_ yJ0_copyOf_3 cJ0_copyOf_3 4 (some (.array (.object "java/lang/Object")))) ({ frames := 2, cells := 1, slots := N, locals := 100 }) (va_Pc [.ref a0, .int (nI N), .ref mi] (fun U => (U.heap.size = sz ∧ va_at D vwC (a0, qc (J 4) n0 f) U.heap ∧ OAs U U.heap n0 f) ∧ EQ aK aV e0 mi D J z U)) (va_Qr (fun (_ : Unit) => True) (fun _ x t => x = sz ∧ va_at D vwC (sz, qc (J 4) N (va_cpy f (fun _ => none) 0 0 n0)) t.heap) (fun q => sz ≤ q)) 1 N (fun q => sz ≤ q) := by
  intro l D J z aK aV e0 mi a0 n0 N sz f hnN hN hz
  refine Met.ofW (cc := cJ0_copyOf_3) (maxL := 4) (ret := some (.array (.object "java/lang/Object"))) (by decide) rfl ?_
  intro p e s m args below meth c s₁ B hml hv
  obtain ⟨rfl, ⟨hsz, ha, hoa⟩, hE⟩ := hv
  have hts := atoms_spec (ws := ws_ yJ0_copyOf_3 cJ0_copyOf_3 4 (some (.array (.object "java/lang/Object")))) B.pre
  have hts : ∀ w ∈ lw_all, w.before _ s = true := fun w h => hts w (List.mem_cons_of_mem _ h)
  have hown : s.vm.findClass RJ0 = some m.cls := findClass_of_methodNamed B.named
  have hl := lv_entry [.ref a0, .int (nI N), .ref mi] (n := 4) (Nat.le_of_ble_eq_true rfl)
  rw [lg_entry_eq]
  generalize (lg_sl [.ref a0, .int (nI N), .ref mi] ++ List.replicate (4 - (lg_sl [.ref a0, .int (nI N), .ref mi]).length) Slot.unset).toArray = ls at hl ⊢
  have hl : lv_has ls 4 [(0, .ref a0), (1, .int (nI N)), (2, .ref mi)] := hl
  have hx := B.exec
  have hb := B.bytes
  refine lv_aload_n hx hb dJ0_copyOf_3_0 rfl (lv_at hl 2 rfl) ?_
  refine va_ldcM hx hb hown (hts _ q1606) hE.2.2.1 dJ0_copyOf_3_1 ?_
  refine lv_acmp_ne (tgt := 13) (rx := some mi) (ry := some mi) hx hb dJ0_copyOf_3_3 (by decide) (fun hc => absurd rfl hc) (fun _ => ?_)
  refine lv_iload_n hx hb dJ0_copyOf_3_6 rfl (lv_at hl 1 rfl) ?_
  refine gqnew (D := D) (cl := vwC) (h := sz) hx hb hts hown q1608 hE.2.1 hE.1.1.1 4 rfl (nI_pos (by omega)) (nI_clamp (by omega)) (by omega) hsz (Nat.le_of_ble_eq_true rfl) (by show 0 + N ≤ N; omega) dJ0_copyOf_3_7 (fun H h1 h2 h3 => ?_)
  have hlt := ha.lt
  replace ha := ha.kept (h3 a0 (by rw [hsz] at hlt; exact hlt))
  refine lv_goto (tgt := 24) hx hb dJ0_copyOf_3_10 (by decide) ?_
  refine lv_astore_n (lv' := [(3, .ref sz), (0, .ref a0), (1, .int (nI N)), (2, .ref mi)]) hx hb dJ0_copyOf_3_24 rfl hl (by decide) rfl (fun ls hl => ?_)
  refine lv_aload_n hx hb dJ0_copyOf_3_25 rfl (lv_at hl 1 rfl) ?_
  refine lv_iconst (v := (0 : Int32)) hx hb dJ0_copyOf_3_26 (by decide) ?_
  refine lv_aload_n hx hb dJ0_copyOf_3_27 rfl (lv_at hl 0 rfl) ?_
  refine lv_iconst (v := (0 : Int32)) hx hb dJ0_copyOf_3_28 (by decide) ?_
  refine lv_aload_n hx hb dJ0_copyOf_3_29 rfl (lv_at hl 1 rfl) ?_
  refine va_alen (v := nI n0) hx hb hE.1.1.1 (va_P1 ha) 0 4 rfl rfl rfl dJ0_copyOf_3_30 ?_
  refine lv_iload_n hx hb dJ0_copyOf_3_31 rfl (lv_at hl 2 rfl) ?_
  refine va_mmin hx hb (hml.trans hl.1.symm) hown (hts _ q934) (hts _ q682) (hts _ q150) (hts _ q683) (Nat.le_of_ble_eq_true rfl) (Nat.le_of_ble_eq_true rfl) (Nat.le_of_ble_eq_true rfl) (Nat.le_of_eq (Nat.zero_add _)) dJ0_copyOf_3_32 ?_
  rw [if_neg (nI_nlt hnN (by omega))]
  refine gqcopy (rest := []) hx hb (hml.trans hl.1.symm) hts hown hE.1.1.1 4 q935 ha h1 rfl (by decide) (by decide) (nI_pos (by omega)) (by rw [nI_clamp (by omega)]; exact Nat.le_of_eq (Nat.zero_add _)) (by rw [nI_clamp (by omega)]; show 0 + n0 ≤ N; omega) (fun i hi y hy => ?_) (Nat.le_of_ble_eq_true rfl) (Nat.le_of_ble_eq_true rfl) dJ0_copyOf_3_35 (fun H1 locs1 h4 h5 h6 h7 => ?_)
  · rw [nI_clamp (by omega)] at hi
    rw [show (0 : Int32).toNatClampNeg = 0 from rfl, Nat.zero_add] at hy
    have hy0 := hoa i hi y hy
    exact hy0.mv (Vm.Alike.refl _) (h3 y (by have := hy0.lt; omega))
  rw [nI_clamp (by omega)] at h4
  have hS : va_S (fun q => sz ≤ q) s.heap H1 locs1 := ⟨by rw [h5, h2]; omega, fun q g1 g2 => (h6 q (by omega)).trans (h3 q (by omega)), fun l g => by
    rcases h7 l g with g | g
    · cases g
    · rw [g]; exact Nat.le_refl _⟩
  refine lv_aload_n hx hb dJ0_copyOf_3_38 rfl (lv_at hl 0 rfl) ?_
  exact W.widen (k := 1) (n := N) (by omega) (by show 0 + N ≤ N; omega) (W.aret hx hb B.returns (Or.inr ⟨_, rfl⟩) (Or.inr ⟨sz, rfl⟩) (fun t ht hW => ⟨⟨(), sz, rfl, trivial, rfl, by show va_at D vwC _ t.heap; rw [ht]; exact h4⟩, hS.F ht⟩) hS.2.2 dJ0_copyOf_3_39 B.notSynchronized)
set_option maxHeartbeats 4000000 in
theorem mJ0_copyOf_2 : ∀ (l : Launch) (D : va_G) (J : Nat → ClassId) (z : Nat) (aK aV : Nat → Nat) (e0 mi : Nat) (a0 n0 N sz : Nat) (f : Nat → Option Nat), n0 ≤ N → N < 2 ^ 20 → z ≤ sz → Met l yJ0_copyOf_2 (ws_ yJ0_copyOf_2 cJ0_copyOf_2 2 (some (.array (.object "java/lang/Object")))) ({ frames := 3, cells := 1, slots := N, locals := 200 }) (va_Pc [.ref a0, .int (nI N)] (fun U => (U.heap.size = sz ∧ va_at D vwC (a0, qc (J 4) n0 f) U.heap ∧ OAs U U.heap n0 f) ∧ EQ aK aV e0 mi D J z U)) (va_Qr (fun (_ : Unit) => True) (fun _ x t => x = sz ∧ va_at D vwC (sz, qc (J 4) N (va_cpy f (fun _ => none) 0 0 n0)) t.heap) (fun q => sz ≤ q)) 1 N (fun q => sz ≤ q) := by
  intro l D J z aK aV e0 mi a0 n0 N sz f hnN hN hz
  refine Met.ofW (cc := cJ0_copyOf_2) (maxL := 2) (ret := some (.array (.object "java/lang/Object"))) (by decide) rfl ?_
  intro p e s m args below meth c s₁ B hml hv
  obtain ⟨rfl, ⟨hsz, ha, hoa⟩, hE⟩ := hv
  have hts := atoms_spec (ws := ws_ yJ0_copyOf_2 cJ0_copyOf_2 2 (some (.array (.object "java/lang/Object")))) B.pre
  have hts : ∀ w ∈ lw_all, w.before _ s = true := fun w h => hts w (List.mem_cons_of_mem _ h)
  have hown : s.vm.findClass RJ0 = some m.cls := findClass_of_methodNamed B.named
  have hl := lv_entry [.ref a0, .int (nI N)] (n := 2) (Nat.le_of_ble_eq_true rfl)
  rw [lg_entry_eq]
  generalize (lg_sl [.ref a0, .int (nI N)] ++ List.replicate (2 - (lg_sl [.ref a0, .int (nI N)]).length) Slot.unset).toArray = ls at hl ⊢
  have hl : lv_has ls 2 [(0, .ref a0), (1, .int (nI N))] := hl
  have hx := B.exec
  have hb := B.bytes
  refine lv_aload_n hx hb dJ0_copyOf_2_0 rfl (lv_at hl 0 rfl) ?_
  refine lv_iload_n hx hb dJ0_copyOf_2_1 rfl (lv_at hl 1 rfl) ?_
  refine lv_aload_n hx hb dJ0_copyOf_2_2 rfl (lv_at hl 0 rfl) ?_
  refine va_getC (C := "[Ljava/lang/Object;") (mi := mi) hx hb (hml.trans hl.1.symm) hown (hts _ q1571) hE.2.2.2.use (hts _ q2785) (hts _ q1572) (hts _ q1602) hE.2.2.1 ⟨_, ha, rfl, va_nmO (hE.1.1.1.2 4 _ rfl).2 (by decide)⟩ (Nat.le_of_ble_eq_true rfl) (Nat.le_of_ble_eq_true rfl) dJ0_copyOf_2_3 ?_
  refine va_callr (va_runS (As := [.ref a0, .int (nI N), .ref mi]) (rest := []) ⟨hx, hb, hml, hown, hts⟩ (mJ0_copyOf_3 l D J z aK aV e0 mi a0 n0 N sz f hnN hN hz) (va_cwS 3 hts (lw_S q1603 q1604 q135 q1605) rfl rfl rfl (by decide +kernel) ⟨Nat.le_of_ble_eq_true rfl, Nat.le_of_ble_eq_true rfl⟩) ⟨fun _ U g mk q => ⟨q.1, q.2.1, q.2.2.go (State.WarmedH.refl U) (fun _ _ _ => rfl)⟩, fun U hU hW => ⟨rfl, by rw [hU]; exact ⟨hsz, ha, hoa.mv hW.alike (fun _ _ _ _ => rfl)⟩, hE.go hW (fun q h1 h2 => by rw [hU])⟩⟩ rfl rfl hl.1 rfl (lv_room (Nat.le_of_ble_eq_true rfl)) dJ0_copyOf_2_6 ⟨by show 0 + 1 ≤ 1; omega, by show 0 + N ≤ N; omega⟩) (va_S.rf (A := fun q => sz ≤ q)) (fun q _ h => h) (fun q h => h) (fun x u t H1 locs1 ht hvm hp hB hz1 hk1 hS => ?_)
  obtain ⟨rfl, hB⟩ := hB
  rw [ht] at hB
  exact W.widen (k := 1) (n := N) (by omega) (by omega) (W.aret hx hb B.returns (Or.inr ⟨_, rfl⟩) (Or.inr ⟨_, rfl⟩) (fun t ht hW => ⟨⟨(), _, rfl, trivial, rfl, by show va_at D vwC _ t.heap; rw [ht]; exact hB⟩, hS.F ht⟩) hS.2.2 dJ0_copyOf_2_9 B.notSynchronized)
set_option maxHeartbeats 4000000 in
theorem mJ3_grow_2 : ∀ (l : Launch) (D : va_G) (J : Nat → ClassId) (z : Nat) (aK aV : Nat → Nat) (e0 mi : Nat) (q arr cap sz : Nat) (mc nn : Int32) (f : Nat → Option Nat), (cap = 0 → arr = e0) → cap < 2 ^ 19 → z ≤ q → q < sz → Met l yJ3_grow_2 (ws_ yJ3_grow_2 cJ3_grow_2 4 (some (.array (.object "java/lang/Object")))) ({ frames := 4, cells := 1, slots := (gcap cap), locals := 300 }) (va_Pc [.ref q, .int (nI (cap + 1))] (fun U => (U.heap.size = sz ∧ va_at D vwC (q, .inr (6, [.int mc, .ref arr, .int nn])) U.heap ∧ va_at D vwC (arr, qc (J 4) cap f) U.heap ∧ OAs U U.heap cap f) ∧ EQ aK aV e0 mi D J z U)) (va_Qr (fun (_ : Unit) => True) (fun _ x t => x = sz ∧ va_at D vwC (q, .inr (6, [.int mc, .ref sz, .int nn])) t.heap ∧ va_at D vwC (sz, qc (J 4) (gcap cap) (va_cpy f (fun _ => none) 0 0 cap)) t.heap) (fun x => x = q ∨ sz ≤ x)) 1 (gcap cap) (fun x => x = q ∨ sz ≤ x) := by
  intro l D J z aK aV e0 mi q arr cap sz mc nn f hc0 hcap hz hqs
  refine Met.ofW (cc := cJ3_grow_2) (maxL := 4) (ret := some (.array (.object "java/lang/Object"))) (by decide) rfl ?_
  intro p e s m args below meth c s₁ B hml hv
  obtain ⟨rfl, ⟨hsz, hq, ha, hoa⟩, hE⟩ := hv
  have hts := atoms_spec (ws := ws_ yJ3_grow_2 cJ3_grow_2 4 (some (.array (.object "java/lang/Object")))) B.pre
  have hts : ∀ w ∈ lw_all, w.before _ s = true := fun w h => hts w (List.mem_cons_of_mem _ h)
  have hown : s.vm.findClass RJ3 = some m.cls := findClass_of_methodNamed B.named
  have hl := lv_entry [.ref q, .int (nI (cap + 1))] (n := 4) (Nat.le_of_ble_eq_true rfl)
  rw [lg_entry_eq]
  generalize (lg_sl [.ref q, .int (nI (cap + 1))] ++ List.replicate (4 - (lg_sl [.ref q, .int (nI (cap + 1))]).length) Slot.unset).toArray = ls at hl ⊢
  have hl : lv_has ls 4 [(0, .ref q), (1, .int (nI (cap + 1)))] := hl
  have hx := B.exec
  have hb := B.bytes
  refine lv_aload_n hx hb dJ3_grow_2_0 rfl (lv_at hl 0 rfl) ?_
  refine gget hx hb hts in_J3 hown hE.1.1.1 hq rfl 1 (by decide) q435 rfl dJ3_grow_2_1 ?_
  refine va_alen (v := nI cap) hx hb hE.1.1.1 (va_P1 ha) 0 4 rfl rfl rfl dJ3_grow_2_4 ?_
  refine lv_istore_n (lv' := [(2, .int (nI cap)), (0, .ref q), (1, .int (nI (cap + 1)))]) hx hb dJ3_grow_2_5 rfl hl (by decide) rfl (fun ls hl => ?_)
  refine lv_iload_n hx hb dJ3_grow_2_6 rfl (lv_at hl 0 rfl) ?_
  by_cases c0 : cap = 0
  · subst c0
    cases hc0 rfl
    refine lv_if_gt (tgt := 20) hx hb dJ3_grow_2_7 (by decide) (fun hc => absurd hc (by decide)) (fun hc => ?_)
    refine lv_aload_n hx hb dJ3_grow_2_10 rfl (lv_at hl 1 rfl) ?_
    refine gget hx hb hts in_J3 hown hE.1.1.1 hq rfl 1 (by decide) q435 rfl dJ3_grow_2_11 ?_
    refine va_gets (A := zZ z) hx hb hE.1.2.1 va_S.rf hown (hts _ q433) (fun _ h => h) dJ3_grow_2_14 ?_
    refine lv_acmp_eq (tgt := 45) (rx := some e0) (ry := some e0) hx hb dJ3_grow_2_17 (by decide) (fun _ => ?_) (fun hc => absurd rfl hc)
    refine lv_aload_n hx hb dJ3_grow_2_45 rfl (lv_at hl 1 rfl) ?_
    refine lv_bipush (v := (10 : Int32)) hx hb dJ3_grow_2_46 (by decide) ?_
    refine lv_iload_n hx hb dJ3_grow_2_48 rfl (lv_at hl 2 rfl) ?_
    refine va_mmax hx hb (hml.trans hl.1.symm) hown (hts _ q1609) (hts _ q679) (hts _ q150) (hts _ q680) (Nat.le_of_ble_eq_true rfl) (Nat.le_of_ble_eq_true rfl) (Nat.le_of_ble_eq_true rfl) (Nat.le_of_ble_eq_true rfl) dJ3_grow_2_49 ?_
    rw [if_neg (show ¬ (10 : Int32) < nI (0 + 1) from by decide)]
    refine gqnew (D := D) (cl := vwC) (h := sz) (N' := 10) hx hb hts hown q1610 hE.2.1 hE.1.1.1 4 rfl (by decide) rfl (by decide) hsz (Nat.le_of_ble_eq_true rfl) (Nat.le_of_ble_eq_true rfl) dJ3_grow_2_52 (fun H h1 h2 h3 => ?_)
    replace hq := hq.kept (h3 q hqs)
    refine lv_dup_x1 hx hb dJ3_grow_2_55 rfl rfl ?_
    refine gput hx hb hts in_J3 tyJ3 tyJ3_ok nmJ3 hown hE.1.1.1 hq rfl 1 (by decide) q435 rfl rfl rfl (Nat.le_of_ble_eq_true rfl) dJ3_grow_2_56 (fun H1 locs1 h4 h5 h6 h7 => ?_)
    have hS : va_S (fun x => x = q ∨ sz ≤ x) s.heap H1 locs1 := ⟨by rw [h5, h2]; omega, fun x g1 g2 => (h6 x (fun e => g2 (Or.inl e))).trans (h3 x (by omega)), fun l g => by
      rcases h7 l g with g | g
      · cases g
      · exact Or.inl g⟩
    replace h1 := h1.kept (h6 sz (by omega))
    rw [show va_cpy f (fun _ => none) 0 0 0 = (fun _ => none) from cpy0]
    exact W.aret hx hb B.returns (Or.inr ⟨_, rfl⟩) (Or.inr ⟨_, rfl⟩) (fun t ht hW => ⟨⟨(), _, rfl, trivial, rfl, by show va_at D vwC _ t.heap ∧ va_at D vwC _ t.heap; rw [ht]; exact ⟨h4, h1⟩⟩, hS.F ht⟩) hS.2.2 dJ3_grow_2_59 B.notSynchronized
  refine lv_if_gt (tgt := 20) hx hb dJ3_grow_2_7 (by decide) (fun _ => ?_) (fun hc => absurd (nI_lt (a := 0) (by omega) (by omega)) hc)
  refine lv_iload_n hx hb dJ3_grow_2_20 rfl (lv_at hl 0 rfl) ?_
  refine lv_iload_n hx hb dJ3_grow_2_21 rfl (lv_at hl 2 rfl) ?_
  refine lv_iload_n hx hb dJ3_grow_2_22 rfl (lv_at hl 0 rfl) ?_
  refine lv_isub hx hb dJ3_grow_2_23 ?_
  refine lv_iload_n hx hb dJ3_grow_2_24 rfl (lv_at hl 0 rfl) ?_
  refine lv_iconst (v := (1 : Int32)) hx hb dJ3_grow_2_25 (by decide) ?_
  refine lv_ishr hx hb dJ3_grow_2_26 ?_
  rw [show nI (cap + 1) - nI cap = nI 1 from by rw [pk_sub (by omega)]; congr 1; omega, show nI cap >>> ((1 : Int32) &&& 31) = nI (cap / 2) from pk_shrN (by omega) _ 1 (by decide)]
  have hmx : mxI (nI 1) (nI (cap / 2)) = nI (if 1 < cap / 2 then cap / 2 else 1) := by
    unfold mxI
    by_cases c : 1 < cap / 2
    · rw [if_pos c, if_pos (nI_lt c (by omega))]
    · rw [if_neg c, if_neg (nI_nlt (by omega) (by omega))]
  have hgc : gcap cap = cap + (if 1 < cap / 2 then cap / 2 else 1) := by unfold gcap; rw [if_neg c0]
  have hgl : gcap cap < 2 ^ 20 := by rw [hgc]; split <;> omega
  have hgg := gcap_gt cap
  refine tcallS (As := [.int (nI cap), .int (nI 1), .int (nI (cap / 2))]) (rest := []) hx hb hts hown hml hl.1 (mJ8_newLength (nI cap) (nI 1) (nI (cap / 2)) (by rw [hmx, nI_add, ← hgc]; exact nI_lt (a := 0) (by omega) (by omega)) (by rw [hmx, nI_add, ← hgc]; exact nI_nlt (b := gcap cap) (a := 2147483639) (by omega) (by omega))) (va_cwS 3 hts (lw_S q1567 q916 q149 q917) rfl rfl rfl (by decide +kernel) ⟨Nat.le_of_ble_eq_true rfl, Nat.le_of_ble_eq_true rfl⟩) ⟨Nat.zero_le _, Nat.zero_le _⟩ rfl rfl (lv_room (Nat.le_of_ble_eq_true rfl)) dJ3_grow_2_27 ?_
  rw [hmx, nI_add, ← hgc]
  refine lv_istore_n (lv' := [(3, .int (nI (gcap cap))), (2, .int (nI cap)), (0, .ref q), (1, .int (nI (cap + 1)))]) hx hb dJ3_grow_2_30 rfl hl (by decide) rfl (fun ls hl => ?_)
  refine lv_aload_n hx hb dJ3_grow_2_31 rfl (lv_at hl 2 rfl) ?_
  refine lv_aload_n hx hb dJ3_grow_2_32 rfl (lv_at hl 2 rfl) ?_
  refine gget hx hb hts in_J3 hown hE.1.1.1 hq rfl 1 (by decide) q435 rfl dJ3_grow_2_33 ?_
  refine lv_iload_n hx hb dJ3_grow_2_36 rfl (lv_at hl 0 rfl) ?_
  refine va_callr (va_runS (As := [.ref arr, .int (nI (gcap cap))]) (rest := [.ref q]) ⟨hx, hb, hml, hown, hts⟩ (mJ0_copyOf_2 l D J z aK aV e0 mi arr cap (gcap cap) sz f (by omega) hgl (by omega)) (va_cwS 2 hts (lw_S q1568 q1569 q135 q1570) rfl rfl rfl (by decide +kernel) ⟨Nat.le_of_ble_eq_true rfl, Nat.le_of_ble_eq_true rfl⟩) ⟨fun _ U g mk q => ⟨q.1, q.2.1, q.2.2.go (State.WarmedH.refl U) (fun _ _ _ => rfl)⟩, fun U hU hW => ⟨rfl, by rw [hU]; exact ⟨hsz, ha, hoa.mv hW.alike (fun _ _ _ _ => rfl)⟩, hE.go hW (fun q h1 h2 => by rw [hU])⟩⟩ rfl rfl hl.1 rfl (lv_room (Nat.le_of_ble_eq_true rfl)) dJ3_grow_2_37 ⟨by show 0 + 1 ≤ 1; omega, by show 0 + gcap cap ≤ gcap cap; omega⟩) (va_S.rf (A := fun x => x = q ∨ sz ≤ x)) (fun q _ h => Or.inr h) (fun q h => Or.inr h) (fun x u t H locs ht hvm hp hB hz1 hk1 hS => ?_)
  obtain ⟨rfl, hB⟩ := hB
  rw [ht] at hB
  replace hq := hq.kept (hk1 q (by omega) (by omega))
  refine lv_dup_x1 hx hb dJ3_grow_2_40 rfl rfl ?_
  refine gput hx hb hts in_J3 tyJ3 tyJ3_ok nmJ3 hown hE.1.1.1 hq rfl 1 (by decide) q435 rfl rfl rfl (Nat.le_of_ble_eq_true rfl) dJ3_grow_2_41 (fun H1 locs1 h4 h5 h6 h7 => ?_)
  replace hS := va_S.one hS (Or.inl rfl) h5 h6 h7
  replace hB := hB.kept (h6 _ (by omega))
  exact W.widen (k := 1) (n := gcap cap) (by omega) (by omega) (W.aret hx hb B.returns (Or.inr ⟨_, rfl⟩) (Or.inr ⟨_, rfl⟩) (fun t ht hW => ⟨⟨(), _, rfl, trivial, rfl, by show va_at D vwC _ t.heap ∧ va_at D vwC _ t.heap; rw [ht]; exact ⟨h4, hB⟩⟩, hS.F ht⟩) hS.2.2 dJ3_grow_2_44 B.notSynchronized)
set_option maxHeartbeats 4000000 in
theorem mJ3_grow : ∀ (l : Launch) (D : va_G) (J : Nat → ClassId) (z : Nat) (aK aV : Nat → Nat) (e0 mi : Nat) (q arr cap sz : Nat) (mc : Int32) (f : Nat → Option Nat), (cap = 0 → arr = e0) → cap < 2 ^ 19 → z ≤ q → q < sz → Met l yJ3_grow (ws_ yJ3_grow cJ3_grow 1 (some (.array (.object "java/lang/Object")))) ({ frames := 5, cells := 1, slots := (gcap cap), locals := 400 }) (va_Pc [.ref q] (fun U => (U.heap.size = sz ∧ va_at D vwC (q, .inr (6, [.int mc, .ref arr, .int (nI cap)])) U.heap ∧ va_at D vwC (arr, qc (J 4) cap f) U.heap ∧ OAs U U.heap cap f) ∧ EQ aK aV e0 mi D J z U)) (va_Qr (fun (_ : Unit) => True) (fun _ x t => x = sz ∧ va_at D vwC (q, .inr (6, [.int mc, .ref sz, .int (nI cap)])) t.heap ∧ va_at D vwC (sz, qc (J 4) (gcap cap) (va_cpy f (fun _ => none) 0 0 cap)) t.heap) (fun x => x = q ∨ sz ≤ x)) 1 (gcap cap) (fun x => x = q ∨ sz ≤ x) := by
  intro l D J z aK aV e0 mi q arr cap sz mc f hc0 hcap hz hqs
  refine Met.ofW (cc := cJ3_grow) (maxL := 1) (ret := some (.array (.object "java/lang/Object"))) (by decide) rfl ?_
  intro p e s m args below meth c s₁ B hml hv
  obtain ⟨rfl, ⟨hsz, hq, ha, hoa⟩, hE⟩ := hv
  have hts := atoms_spec (ws := ws_ yJ3_grow cJ3_grow 1 (some (.array (.object "java/lang/Object")))) B.pre
  have hts : ∀ w ∈ lw_all, w.before _ s = true := fun w h => hts w (List.mem_cons_of_mem _ h)
  have hown : s.vm.findClass RJ3 = some m.cls := findClass_of_methodNamed B.named
  have hl := lv_entry [.ref q] (n := 1) (Nat.le_of_ble_eq_true rfl)
  rw [lg_entry_eq]
  generalize (lg_sl [.ref q] ++ List.replicate (1 - (lg_sl [.ref q]).length) Slot.unset).toArray = ls at hl ⊢
  have hl : lv_has ls 1 [(0, .ref q)] := hl
  have hx := B.exec
  have hb := B.bytes
  refine lv_aload_n hx hb dJ3_grow_0 rfl (lv_at hl 0 rfl) ?_
  refine lv_aload_n hx hb dJ3_grow_1 rfl (lv_at hl 0 rfl) ?_
  refine gget hx hb hts in_J3 hown hE.1.1.1 hq rfl 2 (by decide) q436 rfl dJ3_grow_2 ?_
  refine lv_iconst (v := (1 : Int32)) hx hb dJ3_grow_5 (by decide) ?_
  refine lv_iadd hx hb dJ3_grow_6 ?_
  rw [nI_1]
  refine va_callr (va_runV (As := [.int (nI (cap + 1))]) (rest := []) ⟨hx, hb, hml, hown, hts⟩ (mJ3_grow_2 l D J z aK aV e0 mi q arr cap sz mc (nI cap) f hc0 hcap hz hqs) (cwV 1 hts (lw_V q1563 q1565 qs37 q141 q1566) rfl rfl rfl (by decide +kernel) ⟨Nat.le_of_ble_eq_true rfl, Nat.le_of_ble_eq_true rfl⟩) ⟨fun _ U g mk q => ⟨q.1, q.2.1, q.2.2.go (State.WarmedH.refl U) (fun _ _ _ => rfl)⟩, g_recv hE.1.1.1 hq rfl, fun U hU hW => ⟨rfl, by rw [hU]; exact ⟨hsz, hq, ha, hoa.mv hW.alike (fun _ _ _ _ => rfl)⟩, hE.go hW (fun q h1 h2 => by rw [hU])⟩⟩ rfl rfl hl.1 rfl (lv_room (Nat.le_of_ble_eq_true rfl)) dJ3_grow_7 ⟨by show 0 + 1 ≤ 1; omega, by show 0 + gcap cap ≤ gcap cap; omega⟩) (va_S.rf (A := fun x => x = q ∨ sz ≤ x)) (fun q _ h => h) (fun q h => h) (fun x u t H1 locs1 ht hvm hp hB hz1 hk1 hS => ?_)
  obtain ⟨rfl, hB⟩ := hB
  rw [ht] at hB
  exact W.widen (k := 1) (n := gcap cap) (by omega) (by omega) (W.aret hx hb B.returns (Or.inr ⟨_, rfl⟩) (Or.inr ⟨_, rfl⟩) (fun t ht hW => ⟨⟨(), _, rfl, trivial, rfl, by show va_at D vwC _ t.heap ∧ va_at D vwC _ t.heap; rw [ht]; exact hB⟩, hS.F ht⟩) hS.2.2 dJ3_grow_10 B.notSynchronized)
set_option maxHeartbeats 4000000 in
theorem mJ3_add_2 : ∀ (l : Launch) (D : va_G) (J : Nat → ClassId) (z : Nat) (aK aV : Nat → Nat) (e0 mi : Nat) (q arr cap n v sz : Nat) (mc : Int32) (f : Nat → Option Nat), (cap = 0 → arr = e0) → cap < 2 ^ 19 → n ≤ cap → z ≤ q → q < sz → arr < sz → arr ≠ q → (n < cap → z ≤ arr) → Met l yJ3_add_2 (ws_ yJ3_add_2 cJ3_add_2 4 none) ({ frames := 6, cells := (if n = cap then 1 else 0), slots := (if n = cap then gcap cap else 0), locals := 500 }) (va_Pc [.ref q, .ref v, .ref arr, .int (nI n)] (fun U => (U.heap.size = sz ∧ va_at D vwC (q, .inr (6, [.int mc, .ref arr, .int (nI n)])) U.heap ∧ va_at D vwC (arr, qc (J 4) cap f) U.heap ∧ OAs U U.heap n f ∧ OA U U.heap v) ∧ EQ aK aV e0 mi D J z U)) (va_Qv (fun (_ : Unit) => True) (fun _ t => va_at D vwC (q, .inr (6, [.int mc, .ref (if n = cap then sz else arr), .int (nI (n + 1))])) t.heap ∧ va_at D vwC (if n = cap then sz else arr, qc (J 4) (if n = cap then gcap cap else cap) (va_up (if n = cap then va_cpy f (fun _ => none) 0 0 cap else f) n (some v))) t.heap) (fun x => x = q ∨ (x = arr ∧ n < cap) ∨ sz ≤ x)) (if n = cap then 1 else 0) (if n = cap then gcap cap else 0) (fun x => x = q ∨ (x = arr ∧ n < cap) ∨ sz ≤ x) := by
  intro l D J z aK aV e0 mi q arr cap n v sz mc f hc0 hcap hn hz hqs has haq hza
  refine Met.ofW (cc := cJ3_add_2) (maxL := 4) (ret := none) (by decide) rfl ?_
  intro p e s m args below meth c s₁ B hml hv
  obtain ⟨rfl, ⟨hsz, hq, ha, hoa, hov⟩, hE⟩ := hv
  have hts := atoms_spec (ws := ws_ yJ3_add_2 cJ3_add_2 4 (none)) B.pre
  have hts : ∀ w ∈ lw_all, w.before _ s = true := fun w h => hts w (List.mem_cons_of_mem _ h)
  have hown : s.vm.findClass RJ3 = some m.cls := findClass_of_methodNamed B.named
  have hl := lv_entry [.ref q, .ref v, .ref arr, .int (nI n)] (n := 4) (Nat.le_of_ble_eq_true rfl)
  rw [lg_entry_eq]
  generalize (lg_sl [.ref q, .ref v, .ref arr, .int (nI n)] ++ List.replicate (4 - (lg_sl [.ref q, .ref v, .ref arr, .int (nI n)]).length) Slot.unset).toArray = ls at hl ⊢
  have hl : lv_has ls 4 [(0, .ref q), (1, .ref v), (2, .ref arr), (3, .int (nI n))] := hl
  have hx := B.exec
  have hb := B.bytes
  have hov1 : ∀ H : Heap, va_at D vwC (q, .inr (6, [.int mc, .ref sz, .int (nI n)])) H → (∀ x : Nat, x < s.heap.size → ¬ (x = q ∨ sz ≤ x) → H[x]? = s.heap[x]?) → OA s H v := by
    intro H hq' hk1
    have hlv := hov.lt
    by_cases e : v = q
    · subst e
      obtain ⟨c1, g1, g2, ⟨k3, g3⟩, g4⟩ := hov
      obtain ⟨c2, f1, f2, f3⟩ := g_recv hE.1.1.1 hq' rfl
      obtain ⟨c3, e1, e2, e3⟩ := g_recv hE.1.1.1 hq rfl
      cases g1.symm.trans e1
      have e5 : c2.cls = c1.cls := Option.some.inj (f3.symm.trans e3)
      exact ⟨c2, f1, f2, ⟨k3, by rw [e5]; exact g3⟩, fun comp hc => by rw [e5]; exact g4 comp hc⟩
    · exact hov.mv (Vm.Alike.refl _) (hk1 v hlv (by omega))
  refine lv_iload_n hx hb dJ3_add_2_0 rfl (lv_at hl 3 rfl) ?_
  refine lv_aload_n hx hb dJ3_add_2_1 rfl (lv_at hl 2 rfl) ?_
  refine va_alen (v := nI cap) hx hb hE.1.1.1 (va_P1 ha) 0 4 rfl rfl rfl dJ3_add_2_2 ?_
  by_cases c0 : n = cap
  · subst c0
    simp only [if_true]
    refine lv_icmp_ne (tgt := 11) hx hb dJ3_add_2_3 (by decide) (fun hc => absurd rfl hc) (fun _ => ?_)
    refine lv_aload_n hx hb dJ3_add_2_6 rfl (lv_at hl 0 rfl) ?_
    refine va_callr (va_runV (As := []) (rest := []) ⟨hx, hb, hml, hown, hts⟩ (mJ3_grow l D J z aK aV e0 mi q arr n sz mc f hc0 hcap hz hqs) (cwV 0 hts (lw_V q1559 q1561 qs36 q141 q1562) rfl rfl rfl (by decide +kernel) ⟨Nat.le_of_ble_eq_true rfl, Nat.le_of_ble_eq_true rfl⟩) ⟨fun _ U g mk q => ⟨q.1, q.2.1, q.2.2.go (State.WarmedH.refl U) (fun _ _ _ => rfl)⟩, g_recv hE.1.1.1 hq rfl, fun U hU hW => ⟨rfl, by rw [hU]; exact ⟨hsz, hq, ha, hoa.mv hW.alike (fun _ _ _ _ => rfl)⟩, hE.go hW (fun q h1 h2 => by rw [hU])⟩⟩ rfl rfl hl.1 rfl (lv_room (Nat.le_of_ble_eq_true rfl)) dJ3_add_2_7 ⟨by show 0 + 1 ≤ 1; omega, by show 0 + gcap n ≤ gcap n; omega⟩) (va_S.rf (A := fun x => x = q ∨ (x = arr ∧ n < n) ∨ sz ≤ x)) (fun x _ h => h.elim Or.inl (fun g => Or.inr (Or.inr g))) (fun x h => h.elim Or.inl (fun g => Or.inr (Or.inr g))) (fun x u t H locs ht hvm hp hB hz1 hk1 hS => ?_)
    obtain ⟨hx9, hq, ha⟩ := hB
    replace hx9 := hx9.symm
    subst hx9
    rw [ht] at hq ha
    refine lv_astore_n (lv' := [(2, .ref sz), (0, .ref q), (1, .ref v), (3, .int (nI n))]) hx hb dJ3_add_2_10 rfl hl (by decide) rfl (fun ls hl => ?_)
    refine lv_aload_n hx hb dJ3_add_2_11 rfl (lv_at hl 0 rfl) ?_
    refine lv_iload_n hx hb dJ3_add_2_12 rfl (lv_at hl 3 rfl) ?_
    refine lv_aload_n hx hb dJ3_add_2_13 rfl (lv_at hl 2 rfl) ?_
    refine gqst hx hb hE.1.1.1 4 ha rfl (hov1 H hq hk1) (vp_in_nI (gcap_gt n) (by have := gcap_lt n hcap; omega)) dJ3_add_2_14 (fun H1 locs1 h4 h5 h6 h7 => ?_)
    rw [nI_clamp (by omega)] at h4
    replace hq := hq.kept (h6 q (by omega))
    replace hS := va_S.one hS (Or.inr (Or.inr (Nat.le_refl _))) h5 h6 h7
    replace ha := h4
    skip
    refine lv_aload_n hx hb dJ3_add_2_15 rfl (lv_at hl 1 rfl) ?_
    refine lv_iload_n hx hb dJ3_add_2_16 rfl (lv_at hl 3 rfl) ?_
    refine lv_iconst (v := (1 : Int32)) hx hb dJ3_add_2_17 (by decide) ?_
    refine lv_iadd hx hb dJ3_add_2_18 ?_
    rw [nI_1]
    refine gput hx hb hts in_J3 tyJ3 tyJ3_ok nmJ3 hown hE.1.1.1 hq rfl 2 (by decide) q436 rfl rfl rfl (Nat.le_of_ble_eq_true rfl) dJ3_add_2_19 (fun H1 locs1 h4 h5 h6 h7 => ?_)
    replace ha := ha.kept (h6 _ (by omega))
    replace hS := va_S.one hS (Or.inl rfl) h5 h6 h7
    exact W.widen (k := 1) (n := gcap n) (by omega) (by omega) (W.vret hx hb B.returns (fun t ht hW => ⟨⟨(), rfl, trivial, by show va_at D vwC _ t.heap ∧ va_at D vwC _ t.heap; rw [ht]; exact ⟨h4, ha⟩⟩, hS.F ht⟩) hS.2.2 dJ3_add_2_22 B.notSynchronized)
  simp only [if_neg c0]
  refine lv_icmp_ne (tgt := 11) hx hb dJ3_add_2_3 (by decide) (fun _ => ?_) (fun hc => absurd ((nI_eq (by omega) (by omega)).mp hc) c0)
  obtain ⟨H, eH⟩ : ∃ H, H = s.heap := ⟨_, rfl⟩
  obtain ⟨locs, eL⟩ : ∃ L : List Loc, L = [] := ⟨_, rfl⟩
  have hS : va_S (fun x => x = q ∨ (x = arr ∧ n < cap) ∨ sz ≤ x) s.heap H locs := by rw [eH, eL]; exact va_S.rf
  rw [← eH, ← eL]
  rw [← eH] at hq ha hov
  refine lv_aload_n hx hb dJ3_add_2_11 rfl (lv_at hl 2 rfl) ?_
  refine lv_iload_n hx hb dJ3_add_2_12 rfl (lv_at hl 3 rfl) ?_
  refine lv_aload_n hx hb dJ3_add_2_13 rfl (lv_at hl 1 rfl) ?_
  refine gqst hx hb hE.1.1.1 4 ha rfl hov (vp_in_nI (by omega) (by omega)) dJ3_add_2_14 (fun H1 locs1 h4 h5 h6 h7 => ?_)
  rw [nI_clamp (by omega)] at h4
  replace hq := hq.kept (h6 q (Ne.symm haq))
  replace hS := va_S.one hS (Or.inr (Or.inl ⟨rfl, by omega⟩)) h5 h6 h7
  replace ha := h4
  clear hov
  skip
  refine lv_aload_n hx hb dJ3_add_2_15 rfl (lv_at hl 0 rfl) ?_
  refine lv_iload_n hx hb dJ3_add_2_16 rfl (lv_at hl 3 rfl) ?_
  refine lv_iconst (v := (1 : Int32)) hx hb dJ3_add_2_17 (by decide) ?_
  refine lv_iadd hx hb dJ3_add_2_18 ?_
  rw [nI_1]
  refine gput hx hb hts in_J3 tyJ3 tyJ3_ok nmJ3 hown hE.1.1.1 hq rfl 2 (by decide) q436 rfl rfl rfl (Nat.le_of_ble_eq_true rfl) dJ3_add_2_19 (fun H1 locs1 h4 h5 h6 h7 => ?_)
  replace ha := ha.kept (h6 _ haq)
  replace hS := va_S.one hS (Or.inl rfl) h5 h6 h7
  exact W.vret hx hb B.returns (fun t ht hW => ⟨⟨(), rfl, trivial, by show va_at D vwC _ t.heap ∧ va_at D vwC _ t.heap; rw [ht]; exact ⟨h4, ha⟩⟩, hS.F ht⟩) hS.2.2 dJ3_add_2_22 B.notSynchronized
set_option maxHeartbeats 4000000 in
theorem mJ3_add : ∀ (l : Launch) (D : va_G) (J : Nat → ClassId) (z : Nat) (aK aV : Nat → Nat) (e0 mi : Nat) (q arr cap n v sz : Nat) (mc : Int32) (f : Nat → Option Nat), (cap = 0 → arr = e0) → cap < 2 ^ 19 → n ≤ cap → z ≤ q → q < sz → arr < sz → arr ≠ q → (n < cap → z ≤ arr) → v ≠ q → (∀ i, i < n → ∀ y, f i = some y → y ≠ q) → Met l yJ3_add (ws_ yJ3_add cJ3_add 2 (some .boolean)) ({ frames := 7, cells := (if n = cap then 1 else 0), slots := (if n = cap then gcap cap else 0), locals := 600 }) (va_Pc [.ref q, .ref v] (fun U => (U.heap.size = sz ∧ va_at D vwC (q, .inr (6, [.int mc, .ref arr, .int (nI n)])) U.heap ∧ va_at D vwC (arr, qc (J 4) cap f) U.heap ∧ OAs U U.heap n f ∧ OA U U.heap v) ∧ EQ aK aV e0 mi D J z U)) (va_Qi (fun (x : Int32) (_ : Unit) => x = 1) (fun _ t => va_at D vwC (q, .inr (6, [.int (mc + 1), .ref (if n = cap then sz else arr), .int (nI (n + 1))])) t.heap ∧ va_at D vwC (if n = cap then sz else arr, qc (J 4) (if n = cap then gcap cap else cap) (va_up (if n = cap then va_cpy f (fun _ => none) 0 0 cap else f) n (some v))) t.heap) (fun x => x = q ∨ (x = arr ∧ n < cap) ∨ sz ≤ x)) (if n = cap then 1 else 0) (if n = cap then gcap cap else 0) (fun x => x = q ∨ (x = arr ∧ n < cap) ∨ sz ≤ x) := by
  intro l D J z aK aV e0 mi q arr cap n v sz mc f hc0 hcap hn hz hqs has haq hza hvq hne
  refine Met.ofW (cc := cJ3_add) (maxL := 2) (ret := some .boolean) (by decide) rfl ?_
  intro p e s m args below meth c s₁ B hml hv
  obtain ⟨rfl, ⟨hsz, hq, ha, hoa, hov⟩, hE⟩ := hv
  have hts := atoms_spec (ws := ws_ yJ3_add cJ3_add 2 (some .boolean)) B.pre
  have hts : ∀ w ∈ lw_all, w.before _ s = true := fun w h => hts w (List.mem_cons_of_mem _ h)
  have hown : s.vm.findClass RJ3 = some m.cls := findClass_of_methodNamed B.named
  have hl := lv_entry [.ref q, .ref v] (n := 2) (Nat.le_of_ble_eq_true rfl)
  rw [lg_entry_eq]
  generalize (lg_sl [.ref q, .ref v] ++ List.replicate (2 - (lg_sl [.ref q, .ref v]).length) Slot.unset).toArray = ls at hl ⊢
  have hl : lv_has ls 2 [(0, .ref q), (1, .ref v)] := hl
  have hx := B.exec
  have hb := B.bytes
  refine lv_aload_n hx hb dJ3_add_0 rfl (lv_at hl 0 rfl) ?_
  refine lv_dup hx hb dJ3_add_1 rfl ?_
  refine ggetR hx hb hts in_J3 hown hE.1.1.1 hq rfl 0 (by decide) q438 (fun x h => u_same (hts _ q439) x h) rfl dJ3_add_2 ?_
  refine lv_iconst (v := (1 : Int32)) hx hb dJ3_add_5 (by decide) ?_
  refine lv_iadd hx hb dJ3_add_6 ?_
  obtain ⟨H, eH⟩ : ∃ H, H = s.heap := ⟨_, rfl⟩
  obtain ⟨locs, eL⟩ : ∃ L : List Loc, L = [] := ⟨_, rfl⟩
  have hS : va_S (fun x => x = q ∨ (x = arr ∧ n < cap) ∨ sz ≤ x) s.heap H locs := by rw [eH, eL]; exact va_S.rf
  rw [← eH, ← eL]
  rw [← eH] at hq ha hov hoa hsz
  refine gputR hx hb hts in_J3 tyJ3 tyJ3_ok nmJ3 hown hE.1.1.1 hq rfl 0 (by decide) q438 (fun x h => u_same (hts _ q439) x h) rfl rfl rfl (Nat.le_of_ble_eq_true rfl) dJ3_add_7 (fun H1 locs1 h4 h5 h6 h7 => ?_)
  replace hq := h4
  replace ha := ha.kept (h6 _ haq)
  replace hov := hov.mv (Vm.Alike.refl _) (h6 v hvq)
  replace hoa : OAs s H1 n f := hoa.mv (Vm.Alike.refl _) (fun i hi y hy => h6 y (hne i hi y hy))
  replace hS := va_S.one hS (Or.inl rfl) h5 h6 h7
  replace hsz := h5.trans hsz
  skip
  refine lv_aload_n hx hb dJ3_add_10 rfl (lv_at hl 0 rfl) ?_
  refine lv_aload_n hx hb dJ3_add_11 rfl (lv_at hl 1 rfl) ?_
  refine lv_aload_n hx hb dJ3_add_12 rfl (lv_at hl 0 rfl) ?_
  refine gget hx hb hts in_J3 hown hE.1.1.1 hq rfl 1 (by decide) q435 rfl dJ3_add_13 ?_
  refine lv_aload_n hx hb dJ3_add_16 rfl (lv_at hl 0 rfl) ?_
  refine gget hx hb hts in_J3 hown hE.1.1.1 hq rfl 2 (by decide) q436 rfl dJ3_add_17 ?_
  have hold : ∀ x : Nat, x < s.heap.size → ¬ z ≤ x → H1[x]? = s.heap[x]? := by
    intro x h1 h2
    refine hS.2.1 x h1 (fun g => h2 ?_)
    rcases g with g | g | g
    · omega
    · have := hza g.2
      omega
    · omega
  refine va_callv (va_runV (As := [.ref v, .ref arr, .int (nI n)]) (rest := []) ⟨hx, hb, hml, hown, hts⟩ (mJ3_add_2 l D J z aK aV e0 mi q arr cap n v sz (mc + 1) f hc0 hcap hn hz hqs has haq hza) (cwV 3 hts (lw_V q1555 q1557 qs35 q141 q1558) rfl rfl rfl (by decide +kernel) ⟨Nat.le_of_ble_eq_true rfl, Nat.le_of_ble_eq_true rfl⟩) ⟨fun _ U g mk q => ⟨q.1, q.2.1, q.2.2.go (State.WarmedH.refl U) (fun _ _ _ => rfl)⟩, g_recv hE.1.1.1 hq rfl, fun U hU hW => ⟨rfl, by rw [hU]; exact ⟨hsz, hq, ha, hoa.mv hW.alike (fun _ _ _ _ => rfl), hov.mv hW.alike rfl⟩, hE.go hW (fun x h1 h2 => by rw [hU]; exact hold x h1 h2)⟩⟩ rfl rfl hl.1 rfl (lv_room (Nat.le_of_ble_eq_true rfl)) dJ3_add_20 ⟨by rw [Nat.zero_add]; exact Nat.le_refl _, by rw [Nat.zero_add]; exact Nat.le_refl _⟩) hS (fun x _ h => h) (fun x h => h) (fun u t H1 locs1 ht hvm hp hB hz1 hk1 hS => ?_)
  rw [ht] at hB
  refine lv_iconst (v := (1 : Int32)) hx hb dJ3_add_23 (by decide) ?_
  exact W.widen (k := (if n = cap then 1 else 0)) (n := (if n = cap then gcap cap else 0)) (by simp) (by simp) (W.zret hx hb B.returns (by rfl) (fun t ht hW => ⟨⟨1, (), rfl, rfl, by show va_at D vwC _ t.heap ∧ va_at D vwC _ t.heap; rw [ht]; exact hB⟩, hS.F ht⟩) hS.2.2 dJ3_add_24 B.notSynchronized)
theorem mJ3_isEmpty (D : va_G) (J : Nat → ClassId) (z : Nat) (aK aV : Nat → Nat) (q : Nat) (v w : Value) (n : Nat) (hn : n < 2 ^ 31) : RDi yJ3_isEmpty cJ3_isEmpty 1 (some .boolean) 1 40 [.ref q] (fun U => EC D J z aK aV U ∧ va_at D vwC (q, .inr (6, [v, w, .int (nI n)])) U.heap) (if n = 0 then 1 else 0) := by
  refine RDz.of (by decide) (Nat.le_of_ble_eq_true rfl) ?_
  intro p l e s m args below meth c Q ls hx hb hml hown hts hX hret hl
  have hl : lv_has ls 1 [(0, .ref q)] := hl
  refine lv_aload_n hx hb dJ3_isEmpty_0 rfl (lv_at hl 0 rfl) ?_
  refine gget hx hb hts in_J3 hown hX.1.1 hX.2 rfl 2 (by decide) q436 rfl dJ3_isEmpty_1 ?_
  by_cases c0 : n = 0
  · subst c0
    refine lv_if_ne (tgt := 11) hx hb dJ3_isEmpty_4 (by decide) (fun hc => absurd rfl hc) (fun _ => ?_)
    refine lv_iconst (v := (1 : Int32)) hx hb dJ3_isEmpty_7 (by decide) ?_
    refine lv_goto (tgt := 12) hx hb dJ3_isEmpty_8 (by decide) ?_
    exact hret 12 ls (Or.inr rfl) dJ3_isEmpty_12
  rw [if_neg c0] at hret
  refine lv_if_ne (tgt := 11) hx hb dJ3_isEmpty_4 (by decide) (fun _ => ?_) (fun hc => absurd hc (nI_ne0 (by omega) hn))
  refine lv_iconst (v := (0 : Int32)) hx hb dJ3_isEmpty_11 (by decide) ?_
  exact hret 12 ls (Or.inl rfl) dJ3_isEmpty_12
set_option maxHeartbeats 4000000 in
theorem mJ3_fastRemove : ∀ (l : Launch) (D : va_G) (J : Nat → ClassId) (z : Nat) (aK aV : Nat → Nat) (e0 mi : Nat) (q arr cap n i y : Nat) (mc : Int32) (f : Nat → Option Nat), i < n → n ≤ cap → cap < 2 ^ 20 → z ≤ q → z ≤ arr → arr ≠ q → f i = some y → Met l yJ3_fastRemove (ws_ yJ3_fastRemove cJ3_fastRemove 4 none) ({ frames := 2, cells := 0, slots := 0, locals := 100 }) (va_Pc [.ref q, .ref arr, .int (nI i)] (fun U => (va_at D vwC (q, .inr (6, [.int mc, .ref arr, .int (nI n)])) U.heap ∧ va_at D vwC (arr, qc (J 4) cap f) U.heap ∧ OAs U U.heap n f) ∧ EQ aK aV e0 mi D J z U)) (va_Qv (fun (_ : Unit) => True) (fun _ t => va_at D vwC (q, .inr (6, [.int (mc + 1), .ref arr, .int (nI (n - 1))])) t.heap ∧ va_at D vwC (arr, qc (J 4) cap (va_up (if i < n - 1 then va_cpy f f (i + 1) i (n - 1 - i) else f) (n - 1) none)) t.heap) (fun x => x = q ∨ x = arr)) 0 0 (fun x => x = q ∨ x = arr) := by
  intro l D J z aK aV e0 mi q arr cap n i y mc f hi hn hcap hz hza haq hy
  refine Met.ofW (cc := cJ3_fastRemove) (maxL := 4) (ret := none) (by decide) rfl ?_
  intro p e s m args below meth c s₁ B hml hv
  obtain ⟨rfl, ⟨hq, ha, hoa⟩, hE⟩ := hv
  have hts := atoms_spec (ws := ws_ yJ3_fastRemove cJ3_fastRemove 4 (none)) B.pre
  have hts : ∀ w ∈ lw_all, w.before _ s = true := fun w h => hts w (List.mem_cons_of_mem _ h)
  have hown : s.vm.findClass RJ3 = some m.cls := findClass_of_methodNamed B.named
  have hl := lv_entry [.ref q, .ref arr, .int (nI i)] (n := 4) (Nat.le_of_ble_eq_true rfl)
  rw [lg_entry_eq]
  generalize (lg_sl [.ref q, .ref arr, .int (nI i)] ++ List.replicate (4 - (lg_sl [.ref q, .ref arr, .int (nI i)]).length) Slot.unset).toArray = ls at hl ⊢
  have hl : lv_has ls 4 [(0, .ref q), (1, .ref arr), (2, .int (nI i))] := hl
  have hx := B.exec
  have hb := B.bytes
  refine lv_aload_n hx hb dJ3_fastRemove_0 rfl (lv_at hl 0 rfl) ?_
  refine lv_dup hx hb dJ3_fastRemove_1 rfl ?_
  refine ggetR hx hb hts in_J3 hown hE.1.1.1 hq rfl 0 (by decide) q438 (fun x h => u_same (hts _ q439) x h) rfl dJ3_fastRemove_2 ?_
  refine lv_iconst (v := (1 : Int32)) hx hb dJ3_fastRemove_5 (by decide) ?_
  refine lv_iadd hx hb dJ3_fastRemove_6 ?_
  have hlt := ha.lt
  obtain ⟨H, eH⟩ : ∃ H, H = s.heap := ⟨_, rfl⟩
  obtain ⟨locs, eL⟩ : ∃ L : List Loc, L = [] := ⟨_, rfl⟩
  have hS : va_S (fun x => x = q ∨ x = arr) s.heap H locs := by rw [eH, eL]; exact va_S.rf
  rw [← eH, ← eL]
  rw [← eH] at hq ha hoa
  have hoq : ∀ (H1 : Heap), (∀ x : Nat, x ≠ q → H1[x]? = H[x]?) → va_at D vwC (q, .inr (6, [.int (mc + 1), .ref arr, .int (nI n)])) H1 → OAs s H1 n f := by
    intro H1 hk hq1 j hj x hx9
    by_cases e : x = q
    · subst e
      obtain ⟨c1, g1, g2, ⟨k3, g3⟩, g4⟩ := hoa j hj _ hx9
      obtain ⟨c2, f1, f2, f3⟩ := g_recv hE.1.1.1 hq1 rfl
      obtain ⟨c3, e1, e2, e3⟩ := g_recv hE.1.1.1 hq rfl
      cases g1.symm.trans e1
      have e5 : c2.cls = c1.cls := Option.some.inj (f3.symm.trans e3)
      exact ⟨c2, f1, f2, ⟨k3, by rw [e5]; exact g3⟩, fun comp hc => by rw [e5]; exact g4 comp hc⟩
    · exact (hoa j hj x hx9).mv (Vm.Alike.refl _) (hk x e)
  refine gputR hx hb hts in_J3 tyJ3 tyJ3_ok nmJ3 hown hE.1.1.1 hq rfl 0 (by decide) q438 (fun x h => u_same (hts _ q439) x h) rfl rfl rfl (Nat.le_of_ble_eq_true rfl) dJ3_fastRemove_7 (fun H1 locs1 h4 h5 h6 h7 => ?_)
  have hoa1 := hoq H1 h6 h4
  clear hoq hoa
  replace hq := h4
  replace ha := ha.kept (h6 _ haq)
  replace hS := va_S.one hS (Or.inl rfl) h5 h6 h7
  skip
  refine lv_aload_n hx hb dJ3_fastRemove_10 rfl (lv_at hl 0 rfl) ?_
  refine gget hx hb hts in_J3 hown hE.1.1.1 hq rfl 2 (by decide) q436 rfl dJ3_fastRemove_11 ?_
  refine lv_iconst (v := (1 : Int32)) hx hb dJ3_fastRemove_14 (by decide) ?_
  refine lv_isub hx hb dJ3_fastRemove_15 ?_
  rw [show nI n - 1 = nI (n - 1) from pk_sub (b := 1) (by omega)]
  refine lv_dup hx hb dJ3_fastRemove_16 rfl ?_
  refine lv_istore_n (lv' := [(3, .int (nI (n - 1))), (0, .ref q), (1, .ref arr), (2, .int (nI i))]) hx hb dJ3_fastRemove_17 rfl hl (by decide) rfl (fun ls hl => ?_)
  refine lv_iload_n hx hb dJ3_fastRemove_18 rfl (lv_at hl 3 rfl) ?_
  by_cases c0 : i < n - 1
  · simp only [if_pos c0]
    refine lv_icmp_le (tgt := 34) hx hb dJ3_fastRemove_19 (by decide) (fun hc => absurd hc (nI_ge c0 (by omega))) (fun _ => ?_)
    refine lv_aload_n hx hb dJ3_fastRemove_22 rfl (lv_at hl 2 rfl) ?_
    refine lv_iload_n hx hb dJ3_fastRemove_23 rfl (lv_at hl 3 rfl) ?_
    refine lv_iconst (v := (1 : Int32)) hx hb dJ3_fastRemove_24 (by decide) ?_
    refine lv_iadd hx hb dJ3_fastRemove_25 ?_
    rw [nI_1]
    refine lv_aload_n hx hb dJ3_fastRemove_26 rfl (lv_at hl 2 rfl) ?_
    refine lv_iload_n hx hb dJ3_fastRemove_27 rfl (lv_at hl 3 rfl) ?_
    refine lv_iload_n hx hb dJ3_fastRemove_28 rfl (lv_at hl 0 rfl) ?_
    refine lv_iload_n hx hb dJ3_fastRemove_29 rfl (lv_at hl 3 rfl) ?_
    refine lv_isub hx hb dJ3_fastRemove_30 ?_
    rw [pk_sub (show i ≤ n - 1 by omega)]
    refine gqcopy (rest := []) hx hb (hml.trans hl.1.symm) hts hown hE.1.1.1 4 q807 ha ha rfl (nI_pos (by omega)) (nI_pos (by omega)) (nI_pos (by omega)) (by rw [nI_clamp (by omega), nI_clamp (by omega)]; omega) (by rw [nI_clamp (by omega), nI_clamp (by omega)]; omega) (fun j hj x hx9 => ?_) (Nat.le_of_ble_eq_true rfl) (Nat.le_of_ble_eq_true rfl) dJ3_fastRemove_31 (fun H1 locs1 h4 h5 h6 h7 => ?_)
    · rw [nI_clamp (by omega)] at hj
      rw [nI_clamp (by omega)] at hx9
      exact hoa1 _ (by omega) x hx9
    rw [nI_clamp (by omega), nI_clamp (by omega), nI_clamp (by omega)] at h4
    replace hq := hq.kept (h6 _ (Ne.symm haq))
    replace ha := h4
    replace hS := va_S.one hS (Or.inr rfl) h5 h6 h7
    clear hoa1
    skip
    refine lv_aload_n hx hb dJ3_fastRemove_34 rfl (lv_at hl 2 rfl) ?_
    refine lv_aload_n hx hb dJ3_fastRemove_35 rfl (lv_at hl 1 rfl) ?_
    refine lv_iload_n hx hb dJ3_fastRemove_36 rfl (lv_at hl 0 rfl) ?_
    refine lv_dup_x1 hx hb dJ3_fastRemove_37 rfl rfl ?_
    refine gput hx hb hts in_J3 tyJ3 tyJ3_ok nmJ3 hown hE.1.1.1 hq rfl 2 (by decide) q436 rfl rfl rfl (Nat.le_of_ble_eq_true rfl) dJ3_fastRemove_38 (fun H1 locs1 h4 h5 h6 h7 => ?_)
    replace hq := h4
    replace ha := ha.kept (h6 _ haq)
    replace hS := va_S.one hS (Or.inl rfl) h5 h6 h7
    skip
    refine lv_null hx hb dJ3_fastRemove_41 ?_
    refine gqstN hx hb hE.1.1.1 4 ha rfl (vp_in_nI (by omega) (by omega)) dJ3_fastRemove_42 (fun H1 locs1 h4 h5 h6 h7 => ?_)
    rw [nI_clamp (by omega)] at h4
    replace hq := hq.kept (h6 _ (Ne.symm haq))
    replace hS := va_S.one hS (Or.inr rfl) h5 h6 h7
    exact W.vret hx hb B.returns (fun t ht hW => ⟨⟨(), rfl, trivial, by show va_at D vwC _ t.heap ∧ va_at D vwC _ t.heap; rw [ht]; exact ⟨hq, h4⟩⟩, hS.F ht⟩) hS.2.2 dJ3_fastRemove_43 B.notSynchronized
  simp only [if_neg c0]
  refine lv_icmp_le (tgt := 34) hx hb dJ3_fastRemove_19 (by decide) (fun _ => ?_) (fun hc => absurd (nI_le (show n - 1 ≤ i by omega) (by omega)) hc)
  refine lv_aload_n hx hb dJ3_fastRemove_34 rfl (lv_at hl 2 rfl) ?_
  refine lv_aload_n hx hb dJ3_fastRemove_35 rfl (lv_at hl 1 rfl) ?_
  refine lv_iload_n hx hb dJ3_fastRemove_36 rfl (lv_at hl 0 rfl) ?_
  refine lv_dup_x1 hx hb dJ3_fastRemove_37 rfl rfl ?_
  refine gput hx hb hts in_J3 tyJ3 tyJ3_ok nmJ3 hown hE.1.1.1 hq rfl 2 (by decide) q436 rfl rfl rfl (Nat.le_of_ble_eq_true rfl) dJ3_fastRemove_38 (fun H1 locs1 h4 h5 h6 h7 => ?_)
  replace hq := h4
  replace ha := ha.kept (h6 _ haq)
  replace hS := va_S.one hS (Or.inl rfl) h5 h6 h7
  skip
  refine lv_null hx hb dJ3_fastRemove_41 ?_
  refine gqstN hx hb hE.1.1.1 4 ha rfl (vp_in_nI (by omega) (by omega)) dJ3_fastRemove_42 (fun H1 locs1 h4 h5 h6 h7 => ?_)
  rw [nI_clamp (by omega)] at h4
  replace hq := hq.kept (h6 _ (Ne.symm haq))
  replace hS := va_S.one hS (Or.inr rfl) h5 h6 h7
  exact W.vret hx hb B.returns (fun t ht hW => ⟨⟨(), rfl, trivial, by show va_at D vwC _ t.heap ∧ va_at D vwC _ t.heap; rw [ht]; exact ⟨hq, h4⟩⟩, hS.F ht⟩) hS.2.2 dJ3_fastRemove_43 B.notSynchronized
set_option maxHeartbeats 4000000 in
theorem mJ3_remove : ∀ (l : Launch) (D : va_G) (J : Nat → ClassId) (z : Nat) (aK aV : Nat → Nat) (e0 mi : Nat) (q arr cap n i y : Nat) (mc : Int32) (f : Nat → Option Nat), i < n → n ≤ cap → cap < 2 ^ 20 → z ≤ q → z ≤ arr → arr ≠ q → f i = some y → Met l yJ3_remove (ws_ yJ3_remove cJ3_remove 4 (some (.object "java/lang/Object"))) ({ frames := 4, cells := 0, slots := 0, locals := 300 }) (va_Pc [.ref q, .int (nI i)] (fun U => (va_at D vwC (q, .inr (6, [.int mc, .ref arr, .int (nI n)])) U.heap ∧ va_at D vwC (arr, qc (J 4) cap f) U.heap ∧ OAs U U.heap n f) ∧ EQ aK aV e0 mi D J z U)) (va_Qr (fun (_ : Unit) => True) (fun _ x t => x = y ∧ va_at D vwC (q, .inr (6, [.int (mc + 1), .ref arr, .int (nI (n - 1))])) t.heap ∧ va_at D vwC (arr, qc (J 4) cap (va_up (if i < n - 1 then va_cpy f f (i + 1) i (n - 1 - i) else f) (n - 1) none)) t.heap) (fun x => x = q ∨ x = arr)) 0 0 (fun x => x = q ∨ x = arr) := by
  intro l D J z aK aV e0 mi q arr cap n i y mc f hi hn hcap hz hza haq hy
  refine Met.ofW (cc := cJ3_remove) (maxL := 4) (ret := some (.object "java/lang/Object")) (by decide) rfl ?_
  intro p e s m args below meth c s₁ B hml hv
  obtain ⟨rfl, ⟨hq, ha, hoa⟩, hE⟩ := hv
  have hts := atoms_spec (ws := ws_ yJ3_remove cJ3_remove 4 (some (.object "java/lang/Object"))) B.pre
  have hts : ∀ w ∈ lw_all, w.before _ s = true := fun w h => hts w (List.mem_cons_of_mem _ h)
  have hown : s.vm.findClass RJ3 = some m.cls := findClass_of_methodNamed B.named
  have hl := lv_entry [.ref q, .int (nI i)] (n := 4) (Nat.le_of_ble_eq_true rfl)
  rw [lg_entry_eq]
  generalize (lg_sl [.ref q, .int (nI i)] ++ List.replicate (4 - (lg_sl [.ref q, .int (nI i)]).length) Slot.unset).toArray = ls at hl ⊢
  have hl : lv_has ls 4 [(0, .ref q), (1, .int (nI i))] := hl
  have hx := B.exec
  have hb := B.bytes
  refine lv_iload_n hx hb dJ3_remove_0 rfl (lv_at hl 1 rfl) ?_
  refine lv_aload_n hx hb dJ3_remove_1 rfl (lv_at hl 0 rfl) ?_
  refine gget hx hb hts in_J3 hown hE.1.1.1 hq rfl 2 (by decide) q436 rfl dJ3_remove_2 ?_
  refine kcallS (rest := []) hx hb hts hown hE.1.1.2.1 (fun _ _ _ => rfl) hml hl.1 (mJ22_checkIndex (nI i) (nI n) (nI_pos (by omega)) (nI_lt hi (by omega))) (csJ22_checkIndex_J3 hts ⟨Nat.le_of_ble_eq_true rfl, Nat.le_of_ble_eq_true rfl⟩) ⟨Nat.zero_le _, Nat.zero_le _⟩ rfl rfl (lv_room (Nat.le_of_ble_eq_true rfl)) dJ3_remove_5 ?_
  refine lv_pop hx hb dJ3_remove_8 rfl ?_
  refine lv_aload_n hx hb dJ3_remove_9 rfl (lv_at hl 0 rfl) ?_
  refine gget hx hb hts in_J3 hown hE.1.1.1 hq rfl 1 (by decide) q435 rfl dJ3_remove_10 ?_
  refine lv_astore_n (lv' := [(2, .ref arr), (0, .ref q), (1, .int (nI i))]) hx hb dJ3_remove_13 rfl hl (by decide) rfl (fun ls hl => ?_)
  refine lv_aload_n hx hb dJ3_remove_14 rfl (lv_at hl 0 rfl) ?_
  refine lv_iload_n hx hb dJ3_remove_15 rfl (lv_at hl 2 rfl) ?_
  refine gqld hx hb hE.1.1.1 4 ha rfl (vp_in_nI (by omega) (by omega)) dJ3_remove_16 ?_
  rw [nI_clamp (by omega), hy]
  refine lv_astore_n (lv' := [(3, .ref y), (2, .ref arr), (0, .ref q), (1, .int (nI i))]) hx hb dJ3_remove_17 rfl hl (by decide) rfl (fun ls hl => ?_)
  refine lv_aload_n hx hb dJ3_remove_18 rfl (lv_at hl 2 rfl) ?_
  refine lv_aload_n hx hb dJ3_remove_19 rfl (lv_at hl 1 rfl) ?_
  refine lv_iload_n hx hb dJ3_remove_20 rfl (lv_at hl 3 rfl) ?_
  refine va_callv (va_runV (As := [.ref arr, .int (nI i)]) (rest := []) ⟨hx, hb, hml, hown, hts⟩ (mJ3_fastRemove l D J z aK aV e0 mi q arr cap n i y mc f hi hn hcap hz hza haq hy) (cwV 2 hts (lw_V q803 q805 qs13 q141 q806) rfl rfl rfl (by decide +kernel) ⟨Nat.le_of_ble_eq_true rfl, Nat.le_of_ble_eq_true rfl⟩) ⟨fun _ U g mk q => ⟨q.1, q.2.1, q.2.2.go (State.WarmedH.refl U) (fun _ _ _ => rfl)⟩, g_recv hE.1.1.1 hq rfl, fun U hU hW => ⟨rfl, by rw [hU]; exact ⟨hq, ha, hoa.mv hW.alike (fun _ _ _ _ => rfl)⟩, hE.go hW (fun q h1 h2 => by rw [hU])⟩⟩ rfl rfl hl.1 rfl (lv_room (Nat.le_of_ble_eq_true rfl)) dJ3_remove_21 ⟨Nat.le_of_ble_eq_true rfl, Nat.le_of_ble_eq_true rfl⟩) (va_S.rf (A := fun x => x = q ∨ x = arr)) (fun x _ h => h) (fun x h => h) (fun u t H1 locs1 ht hvm hp hB hz1 hk1 hS => ?_)
  rw [ht] at hB
  refine lv_aload_n hx hb dJ3_remove_24 rfl (lv_at hl 0 rfl) ?_
  exact W.aret hx hb B.returns (Or.inl ⟨_, rfl⟩) (Or.inr ⟨_, rfl⟩) (fun t ht hW => ⟨⟨(), _, rfl, trivial, rfl, by show va_at D vwC _ t.heap ∧ va_at D vwC _ t.heap; rw [ht]; exact hB⟩, hS.F ht⟩) hS.2.2 dJ3_remove_25 B.notSynchronized
set_option maxHeartbeats 4000000 in
theorem mJ3_clear : ∀ (l : Launch) (D : va_G) (J : Nat → ClassId) (z : Nat) (aK aV : Nat → Nat) (e0 mi : Nat) (q arr cap n : Nat) (mc : Int32) (f : Nat → Option Nat), n ≤ cap → cap < 2 ^ 20 → z ≤ q → (0 < n → z ≤ arr) → arr ≠ q → Met l yJ3_clear (ws_ yJ3_clear cJ3_clear 4 none) ({ frames := 1, cells := 0, slots := 0, locals := 40 }) (va_Pc [.ref q] (fun U => (va_at D vwC (q, .inr (6, [.int mc, .ref arr, .int (nI n)])) U.heap ∧ va_at D vwC (arr, qc (J 4) cap f) U.heap) ∧ EQ aK aV e0 mi D J z U)) (va_Qv (fun (_ : Unit) => True) (fun _ t => va_at D vwC (q, .inr (6, [.int (mc + 1), .ref arr, .int 0])) t.heap ∧ va_at D vwC (arr, qc (J 4) cap (fun j => if j < n then none else f j)) t.heap) (fun x => x = q ∨ (x = arr ∧ 0 < n))) 0 0 (fun x => x = q ∨ (x = arr ∧ 0 < n)) := by
  intro l D J z aK aV e0 mi q arr cap n mc f hn hcap hz hza haq
  refine Met.ofW (cc := cJ3_clear) (maxL := 4) (ret := none) (by decide) rfl ?_
  intro p e s m args below meth c s₁ B hml hv
  obtain ⟨rfl, ⟨hq, ha⟩, hE⟩ := hv
  have hts := atoms_spec (ws := ws_ yJ3_clear cJ3_clear 4 (none)) B.pre
  have hts : ∀ w ∈ lw_all, w.before _ s = true := fun w h => hts w (List.mem_cons_of_mem _ h)
  have hown : s.vm.findClass RJ3 = some m.cls := findClass_of_methodNamed B.named
  have hl := lv_entry [.ref q] (n := 4) (Nat.le_of_ble_eq_true rfl)
  rw [lg_entry_eq]
  generalize (lg_sl [.ref q] ++ List.replicate (4 - (lg_sl [.ref q]).length) Slot.unset).toArray = ls at hl ⊢
  have hl : lv_has ls 4 [(0, .ref q)] := hl
  have hx := B.exec
  have hb := B.bytes
  refine lv_aload_n hx hb dJ3_clear_0 rfl (lv_at hl 0 rfl) ?_
  refine lv_dup hx hb dJ3_clear_1 rfl ?_
  refine ggetR hx hb hts in_J3 hown hE.1.1.1 hq rfl 0 (by decide) q438 (fun x h => u_same (hts _ q439) x h) rfl dJ3_clear_2 ?_
  refine lv_iconst (v := (1 : Int32)) hx hb dJ3_clear_5 (by decide) ?_
  refine lv_iadd hx hb dJ3_clear_6 ?_
  obtain ⟨H, eH⟩ : ∃ H, H = s.heap := ⟨_, rfl⟩
  obtain ⟨locs, eL⟩ : ∃ L : List Loc, L = [] := ⟨_, rfl⟩
  have hS : va_S (fun x => x = q ∨ (x = arr ∧ 0 < n)) s.heap H locs := by rw [eH, eL]; exact va_S.rf
  rw [← eH, ← eL]
  rw [← eH] at hq ha
  refine gputR hx hb hts in_J3 tyJ3 tyJ3_ok nmJ3 hown hE.1.1.1 hq rfl 0 (by decide) q438 (fun x h => u_same (hts _ q439) x h) rfl rfl rfl (Nat.le_of_ble_eq_true rfl) dJ3_clear_7 (fun H1 locs1 h4 h5 h6 h7 => ?_)
  replace hq := h4
  replace ha := ha.kept (h6 _ haq)
  replace hS := va_S.one hS (Or.inl rfl) h5 h6 h7
  skip
  refine lv_aload_n hx hb dJ3_clear_10 rfl (lv_at hl 0 rfl) ?_
  refine gget hx hb hts in_J3 hown hE.1.1.1 hq rfl 1 (by decide) q435 rfl dJ3_clear_11 ?_
  refine lv_astore_n (lv' := [(1, .ref arr), (0, .ref q)]) hx hb dJ3_clear_14 rfl hl (by decide) rfl (fun ls hl => ?_)
  refine lv_aload_n hx hb dJ3_clear_15 rfl (lv_at hl 1 rfl) ?_
  refine gget hx hb hts in_J3 hown hE.1.1.1 hq rfl 2 (by decide) q436 rfl dJ3_clear_16 ?_
  refine lv_istore_n (lv' := [(2, .int (nI n)), (1, .ref arr), (0, .ref q)]) hx hb dJ3_clear_19 rfl hl (by decide) rfl (fun ls hl => ?_)
  refine lv_aload_n hx hb dJ3_clear_20 rfl (lv_at hl 2 rfl) ?_
  refine lv_iconst (v := (0 : Int32)) hx hb dJ3_clear_21 (by decide) ?_
  refine lv_dup_x1 hx hb dJ3_clear_22 rfl rfl ?_
  refine gput hx hb hts in_J3 tyJ3 tyJ3_ok nmJ3 hown hE.1.1.1 hq rfl 2 (by decide) q436 rfl rfl rfl (Nat.le_of_ble_eq_true rfl) dJ3_clear_23 (fun H1 locs1 h4 h5 h6 h7 => ?_)
  replace hq := h4
  replace ha := ha.kept (h6 _ haq)
  replace hS := va_S.one hS (Or.inl rfl) h5 h6 h7
  skip
  refine lv_istore_n (lv' := [(3, .int (0 : Int32)), (2, .int (nI n)), (1, .ref arr), (0, .ref q)]) hx hb dJ3_clear_26 rfl hl (by decide) rfl (fun ls hl => ?_)
  have loop : ∀ (Q : State → Prop), (∀ (H : Heap) (locs : List Loc) (ls : Array Slot), va_at D vwC (q, .inr (6, [.int (mc + 1), .ref arr, .int 0])) H → va_at D vwC (arr, qc (J 4) cap (fun j => if j < n then none else f j)) H → va_S (fun x => x = q ∨ (x = arr ∧ 0 < n)) s.heap H locs → W p l e ({ frames := 1, cells := 0, slots := 0, locals := 40 } : Room) s m #[Value.ref q] below meth c H locs 0 0 Q (F0 m 42 ls [])) → ∀ (k i : Nat) (H : Heap) (locs : List Loc) (ls : Array Slot), i + k = n → va_at D vwC (q, .inr (6, [.int (mc + 1), .ref arr, .int 0])) H → va_at D vwC (arr, qc (J 4) cap (fun j => if j < i then none else f j)) H → va_S (fun x => x = q ∨ (x = arr ∧ 0 < n)) s.heap H locs → lv_has ls 4 [(3, .int (nI i)), (2, .int (nI n)), (1, .ref arr), (0, .ref q)] → W p l e ({ frames := 1, cells := 0, slots := 0, locals := 40 } : Room) s m #[Value.ref q] below meth c H locs 0 0 Q (F0 m 27 ls []) := by
    intro Q hex k
    clear hq ha hS
    induction k with
    | zero =>
      intro i H locs ls hik hq9 ha9 hS9 hl
      obtain rfl : n = i := by omega
      refine lv_iload_n hx hb dJ3_clear_27 rfl (lv_at hl 0 rfl) ?_
      refine lv_iload_n hx hb dJ3_clear_28 rfl (lv_at hl 1 rfl) ?_
      refine lv_icmp_ge (tgt := 42) hx hb dJ3_clear_29 (by decide) (fun _ => ?_) (fun hc => absurd (nI_le (Nat.le_refl _) (by omega)) hc)
      exact hex H locs _ hq9 ha9 hS9
    | succ k ih =>
      intro i H locs ls hik hq ha hS hl
      refine lv_iload_n hx hb dJ3_clear_27 rfl (lv_at hl 0 rfl) ?_
      refine lv_iload_n hx hb dJ3_clear_28 rfl (lv_at hl 1 rfl) ?_
      refine lv_icmp_ge (tgt := 42) hx hb dJ3_clear_29 (by decide) (fun hc => absurd hc (nI_ge (by omega) (by omega))) (fun _ => ?_)
      refine lv_aload_n hx hb dJ3_clear_32 rfl (lv_at hl 2 rfl) ?_
      refine lv_iload_n hx hb dJ3_clear_33 rfl (lv_at hl 0 rfl) ?_
      refine lv_null hx hb dJ3_clear_34 ?_
      refine gqstN hx hb hE.1.1.1 4 ha rfl (vp_in_nI (by omega) (by omega)) dJ3_clear_35 (fun H1 locs1 h4 h5 h6 h7 => ?_)
      rw [nI_clamp (by omega)] at h4
      replace hq := hq.kept (h6 _ (Ne.symm haq))
      replace hS := va_S.one hS (Or.inr ⟨rfl, by omega⟩) h5 h6 h7
      rw [show va_up (fun j => if j < i then none else f j) i none = (fun j => if j < i + 1 then none else f j) from by
        funext j
        unfold va_up
        by_cases e : j = i
        · rw [if_pos e, if_pos (by omega)]
        · rw [if_neg e]
          show (if j < i then none else f j) = _
          by_cases e2 : j < i
          · rw [if_pos e2, if_pos (by omega)]
          · rw [if_neg e2, if_neg (by omega)]] at h4
      refine lv_iinc (v := nI (i + 1)) (lv' := [(3, .int (nI (i + 1))), (2, .int (nI n)), (1, .ref arr), (0, .ref q)]) hx hb dJ3_clear_36 hl (k := 0) rfl (nI_1 i) (by decide) rfl (fun ls hl => ?_)
      refine lv_goto (tgt := 27) hx hb dJ3_clear_39 (by decide) ?_
      exact ih (i + 1) H1 locs1 ls (by omega) hq h4 hS hl
  have ha0 : va_at D vwC (arr, qc (J 4) cap (fun j => if j < 0 then none else f j)) H1 := by
    rw [show (fun j => if j < 0 then none else f j) = f from by funext j; rw [if_neg (Nat.not_lt_zero j)]]
    exact ha
  refine loop _ (fun H locs ls hq ha hS => ?_) n 0 _ _ _ (Nat.zero_add n) hq ha0 hS hl
  exact W.vret hx hb B.returns (fun t ht hW => ⟨⟨(), rfl, trivial, by show va_at D vwC _ t.heap ∧ va_at D vwC _ t.heap; rw [ht]; exact ⟨hq, ha⟩⟩, hS.F ht⟩) hS.2.2 dJ3_clear_42 B.notSynchronized
