/-! java/util/AbstractCollection -/
set_option maxRecDepth 100000
def RJ1 : String := "java/util/AbstractCollection"
abbrev cJ1_init : ByteArray := prog_48_method_1_code
def yJ1_init : MethodName := ⟨RJ1, "<init>", "()V"⟩
theorem dJ1_init_0 : decode cJ1_init 0 = .ok (.aload_n 0, 1) := by decide +kernel
theorem dJ1_init_1 : decode cJ1_init 1 = .ok (.invokespecial 1, 3) := by decide +kernel
theorem dJ1_init_4 : decode cJ1_init 4 = .ok (.return_, 1) := by decide +kernel
theorem q139 : (Jvm.Cond.initialized "java/util/AbstractCollection") ∈ lw_all := lw_g (lw_at lw_m1 7 rfl) rfl
theorem q430 : (Jvm.Cond.instanceMethod ({ cls := "java/util/AbstractCollection", name := "<init>", desc := "()V" } : Jvm.MethodName)) ∈ lw_all := lw_g (lw_at lw_m2 58 rfl) rfl
theorem q431 : (Jvm.Cond.code ({ cls := "java/util/AbstractCollection", name := "<init>", desc := "()V" } : Jvm.MethodName) prog_48_method_1_code (1 : Nat) (Option.none : Option Jvm.ClassFile.FieldType)) ∈ lw_all := lw_g (lw_at lw_m2 59 rfl) rfl
theorem q432 : (Jvm.Cond.methodLink "java/util/AbstractCollection" (1 : Nat) ({ cls := "java/lang/Object", name := "<init>", desc := "()V" } : Jvm.MethodName)) ∈ lw_all := lw_g (lw_at lw_m2 60 rfl) rfl
/-! java/util/AbstractList -/
set_option maxRecDepth 100000
def RJ2 : String := "java/util/AbstractList"
abbrev cJ2_init : ByteArray := prog_49_method_1_code
def yJ2_init : MethodName := ⟨RJ2, "<init>", "()V"⟩
def dkwJ2_init_0 : List UInt8 := [42, 183, 0, 1, 42, 3, 181, 0, 7, 177]
abbrev dktJ2_init_0 : List UInt8 := dkwJ2_init_0 ++ []
theorem dksJ2_init_0 : cJ2_init.data.toList.drop 0 = dktJ2_init_0 := by decide +kernel
theorem dJ2_init_0 : decode cJ2_init 0 = .ok (.aload_n 0, 1) := dk_42 (dk_at dksJ2_init_0 0 rfl rfl)
theorem dJ2_init_1 : decode cJ2_init 1 = .ok (.invokespecial 1, 3) := dk_183 0 1 (dk_at dksJ2_init_0 1 rfl rfl)
theorem dJ2_init_4 : decode cJ2_init 4 = .ok (.aload_n 0, 1) := dk_42 (dk_at dksJ2_init_0 4 rfl rfl)
theorem dJ2_init_5 : decode cJ2_init 5 = .ok (.iconst 0, 1) := dk_3 (dk_at dksJ2_init_0 5 rfl rfl)
theorem dJ2_init_6 : decode cJ2_init 6 = .ok (.putfield 7, 3) := dk_181 0 7 (dk_at dksJ2_init_0 6 rfl rfl)
theorem dJ2_init_9 : decode cJ2_init 9 = .ok (.return_, 1) := dk_177 (dk_at dksJ2_init_0 9 rfl rfl)
theorem q140 : (Jvm.Cond.initialized "java/util/AbstractList") ∈ lw_all := lw_g (lw_at lw_m1 8 rfl) rfl
theorem q427 : (Jvm.Cond.instanceMethod ({ cls := "java/util/AbstractList", name := "<init>", desc := "()V" } : Jvm.MethodName)) ∈ lw_all := lw_g (lw_at lw_m2 55 rfl) rfl
theorem q428 : (Jvm.Cond.code ({ cls := "java/util/AbstractList", name := "<init>", desc := "()V" } : Jvm.MethodName) prog_49_method_1_code (1 : Nat) (Option.none : Option Jvm.ClassFile.FieldType)) ∈ lw_all := lw_g (lw_at lw_m2 56 rfl) rfl
theorem q429 : (Jvm.Cond.methodLink "java/util/AbstractList" (1 : Nat) ({ cls := "java/util/AbstractCollection", name := "<init>", desc := "()V" } : Jvm.MethodName)) ∈ lw_all := lw_g (lw_at lw_m2 57 rfl) rfl
theorem q437 : (Jvm.Cond.fieldLink "java/util/AbstractList" (7 : Nat) "java/util/AbstractList" "modCount" "I") ∈ lw_all := lw_g (lw_at lw_m2 65 rfl) rfl
theorem q445 : (Jvm.Cond.soleField "java/util/AbstractList" "modCount") ∈ lw_all := lw_g (lw_at lw_m2 73 rfl) rfl
/-! java/util/Arrays -/
set_option maxRecDepth 100000
def RJ0 : String := "java/util/Arrays"
abbrev cJ0_fill : ByteArray := prog_51_method_103_code
def yJ0_fill : MethodName := ⟨RJ0, "fill", "([II)V"⟩
def dkwJ0_fill_0 : List UInt8 := [3, 61, 42, 190, 62, 28, 29, 162, 0, 13, 42, 28, 27, 79, 132, 2, 1, 167, 255, 244, 177]
abbrev dktJ0_fill_0 : List UInt8 := dkwJ0_fill_0 ++ []
theorem dksJ0_fill_0 : cJ0_fill.data.toList.drop 0 = dktJ0_fill_0 := by decide +kernel
theorem dJ0_fill_0 : decode cJ0_fill 0 = .ok (.iconst 0, 1) := dk_3 (dk_at dksJ0_fill_0 0 rfl rfl)
theorem dJ0_fill_1 : decode cJ0_fill 1 = .ok (.istore_n 2, 1) := dk_61 (dk_at dksJ0_fill_0 1 rfl rfl)
theorem dJ0_fill_2 : decode cJ0_fill 2 = .ok (.aload_n 0, 1) := dk_42 (dk_at dksJ0_fill_0 2 rfl rfl)
theorem dJ0_fill_3 : decode cJ0_fill 3 = .ok (.arraylength, 1) := dk_190 (dk_at dksJ0_fill_0 3 rfl rfl)
theorem dJ0_fill_4 : decode cJ0_fill 4 = .ok (.istore_n 3, 1) := dk_62 (dk_at dksJ0_fill_0 4 rfl rfl)
theorem dJ0_fill_5 : decode cJ0_fill 5 = .ok (.iload_n 2, 1) := dk_28 (dk_at dksJ0_fill_0 5 rfl rfl)
theorem dJ0_fill_6 : decode cJ0_fill 6 = .ok (.iload_n 3, 1) := dk_29 (dk_at dksJ0_fill_0 6 rfl rfl)
theorem dJ0_fill_7 : decode cJ0_fill 7 = .ok (.if_icmp .ge 13, 3) := dk_162 0 13 (dk_at dksJ0_fill_0 7 rfl rfl)
theorem dJ0_fill_10 : decode cJ0_fill 10 = .ok (.aload_n 0, 1) := dk_42 (dk_at dksJ0_fill_0 10 rfl rfl)
theorem dJ0_fill_11 : decode cJ0_fill 11 = .ok (.iload_n 2, 1) := dk_28 (dk_at dksJ0_fill_0 11 rfl rfl)
theorem dJ0_fill_12 : decode cJ0_fill 12 = .ok (.iload_n 1, 1) := dk_27 (dk_at dksJ0_fill_0 12 rfl rfl)
theorem dJ0_fill_13 : decode cJ0_fill 13 = .ok (.iastore, 1) := dk_79 (dk_at dksJ0_fill_0 13 rfl rfl)
theorem dJ0_fill_14 : decode cJ0_fill 14 = .ok (.iinc 2 1, 3) := dk_132 2 1 (dk_at dksJ0_fill_0 14 rfl rfl)
theorem dJ0_fill_17 : decode cJ0_fill 17 = .ok (.goto (-12), 3) := dk_167 255 244 (dk_at dksJ0_fill_0 17 rfl rfl)
theorem dJ0_fill_20 : decode cJ0_fill 20 = .ok (.return_, 1) := dk_177 (dk_at dksJ0_fill_0 20 rfl rfl)
abbrev cJ0_copyOf : ByteArray := prog_51_method_121_code
def yJ0_copyOf : MethodName := ⟨RJ0, "copyOf", "([BI)[B"⟩
def dkwJ0_copyOf_1 : List UInt8 := [27, 184, 1, 48, 184, 0, 150, 44, 176]
abbrev dktJ0_copyOf_1 : List UInt8 := dkwJ0_copyOf_1 ++ []
def dkwJ0_copyOf_0 : List UInt8 := [27, 42, 190, 160, 0, 11, 42, 182, 1, 54, 192, 1, 55, 176, 27, 188, 8, 77, 42, 3, 44, 3, 42, 190]
abbrev dktJ0_copyOf_0 : List UInt8 := dkwJ0_copyOf_0 ++ dktJ0_copyOf_1
theorem dksJ0_copyOf_0 : cJ0_copyOf.data.toList.drop 0 = dktJ0_copyOf_0 := by decide +kernel
theorem dksJ0_copyOf_1 : cJ0_copyOf.data.toList.drop 24 = dktJ0_copyOf_1 := dk_seg dksJ0_copyOf_0 24 rfl rfl
theorem dJ0_copyOf_0 : decode cJ0_copyOf 0 = .ok (.iload_n 1, 1) := dk_27 (dk_at dksJ0_copyOf_0 0 rfl rfl)
theorem dJ0_copyOf_1 : decode cJ0_copyOf 1 = .ok (.aload_n 0, 1) := dk_42 (dk_at dksJ0_copyOf_0 1 rfl rfl)
theorem dJ0_copyOf_2 : decode cJ0_copyOf 2 = .ok (.arraylength, 1) := dk_190 (dk_at dksJ0_copyOf_0 2 rfl rfl)
theorem dJ0_copyOf_3 : decode cJ0_copyOf 3 = .ok (.if_icmp .ne 11, 3) := dk_160 0 11 (dk_at dksJ0_copyOf_0 3 rfl rfl)
theorem dJ0_copyOf_6 : decode cJ0_copyOf 6 = .ok (.aload_n 0, 1) := dk_42 (dk_at dksJ0_copyOf_0 6 rfl rfl)
theorem dJ0_copyOf_7 : decode cJ0_copyOf 7 = .ok (.invokevirtual 310, 3) := dk_182 1 54 (dk_at dksJ0_copyOf_0 7 rfl rfl)
theorem dJ0_copyOf_10 : decode cJ0_copyOf 10 = .ok (.checkcast 311, 3) := dk_192 1 55 (dk_at dksJ0_copyOf_0 10 rfl rfl)
theorem dJ0_copyOf_13 : decode cJ0_copyOf 13 = .ok (.areturn, 1) := dk_176 (dk_at dksJ0_copyOf_0 13 rfl rfl)
theorem dJ0_copyOf_14 : decode cJ0_copyOf 14 = .ok (.iload_n 1, 1) := dk_27 (dk_at dksJ0_copyOf_0 14 rfl rfl)
theorem dJ0_copyOf_15 : decode cJ0_copyOf 15 = .ok (.newarray .byte, 2) := dk_188_8 (dk_at dksJ0_copyOf_0 15 rfl rfl)
theorem dJ0_copyOf_17 : decode cJ0_copyOf 17 = .ok (.astore_n 2, 1) := dk_77 (dk_at dksJ0_copyOf_0 17 rfl rfl)
theorem dJ0_copyOf_18 : decode cJ0_copyOf 18 = .ok (.aload_n 0, 1) := dk_42 (dk_at dksJ0_copyOf_0 18 rfl rfl)
theorem dJ0_copyOf_19 : decode cJ0_copyOf 19 = .ok (.iconst 0, 1) := dk_3 (dk_at dksJ0_copyOf_0 19 rfl rfl)
theorem dJ0_copyOf_20 : decode cJ0_copyOf 20 = .ok (.aload_n 2, 1) := dk_44 (dk_at dksJ0_copyOf_0 20 rfl rfl)
theorem dJ0_copyOf_21 : decode cJ0_copyOf 21 = .ok (.iconst 0, 1) := dk_3 (dk_at dksJ0_copyOf_0 21 rfl rfl)
theorem dJ0_copyOf_22 : decode cJ0_copyOf 22 = .ok (.aload_n 0, 1) := dk_42 (dk_at dksJ0_copyOf_0 22 rfl rfl)
theorem dJ0_copyOf_23 : decode cJ0_copyOf 23 = .ok (.arraylength, 1) := dk_190 (dk_at dksJ0_copyOf_0 23 rfl rfl)
theorem dJ0_copyOf_24 : decode cJ0_copyOf 24 = .ok (.iload_n 1, 1) := dk_27 (dk_at dksJ0_copyOf_1 0 rfl rfl)
theorem dJ0_copyOf_25 : decode cJ0_copyOf 25 = .ok (.invokestatic 304, 3) := dk_184 1 48 (dk_at dksJ0_copyOf_1 1 rfl rfl)
theorem dJ0_copyOf_28 : decode cJ0_copyOf 28 = .ok (.invokestatic 150, 3) := dk_184 0 150 (dk_at dksJ0_copyOf_1 4 rfl rfl)
theorem dJ0_copyOf_31 : decode cJ0_copyOf 31 = .ok (.aload_n 2, 1) := dk_44 (dk_at dksJ0_copyOf_1 7 rfl rfl)
theorem dJ0_copyOf_32 : decode cJ0_copyOf 32 = .ok (.areturn, 1) := dk_176 (dk_at dksJ0_copyOf_1 8 rfl rfl)
abbrev cJ0_copyOfRange : ByteArray := prog_51_method_132_code
def yJ0_copyOfRange : MethodName := ⟨RJ0, "copyOfRange", "([BII)[B"⟩
def dkwJ0_copyOfRange_1 : List UInt8 := [176]
abbrev dktJ0_copyOfRange_1 : List UInt8 := dkwJ0_copyOfRange_1 ++ []
def dkwJ0_copyOfRange_0 : List UInt8 := [27, 154, 0, 9, 28, 42, 190, 159, 0, 10, 42, 27, 28, 184, 1, 83, 176, 42, 182, 1, 54, 192, 1, 55]
abbrev dktJ0_copyOfRange_0 : List UInt8 := dkwJ0_copyOfRange_0 ++ dktJ0_copyOfRange_1
theorem dksJ0_copyOfRange_0 : cJ0_copyOfRange.data.toList.drop 0 = dktJ0_copyOfRange_0 := by decide +kernel
theorem dksJ0_copyOfRange_1 : cJ0_copyOfRange.data.toList.drop 24 = dktJ0_copyOfRange_1 := dk_seg dksJ0_copyOfRange_0 24 rfl rfl
theorem dJ0_copyOfRange_0 : decode cJ0_copyOfRange 0 = .ok (.iload_n 1, 1) := dk_27 (dk_at dksJ0_copyOfRange_0 0 rfl rfl)
theorem dJ0_copyOfRange_1 : decode cJ0_copyOfRange 1 = .ok (.ifCond .ne 9, 3) := dk_154 0 9 (dk_at dksJ0_copyOfRange_0 1 rfl rfl)
theorem dJ0_copyOfRange_4 : decode cJ0_copyOfRange 4 = .ok (.iload_n 2, 1) := dk_28 (dk_at dksJ0_copyOfRange_0 4 rfl rfl)
theorem dJ0_copyOfRange_5 : decode cJ0_copyOfRange 5 = .ok (.aload_n 0, 1) := dk_42 (dk_at dksJ0_copyOfRange_0 5 rfl rfl)
theorem dJ0_copyOfRange_6 : decode cJ0_copyOfRange 6 = .ok (.arraylength, 1) := dk_190 (dk_at dksJ0_copyOfRange_0 6 rfl rfl)
theorem dJ0_copyOfRange_7 : decode cJ0_copyOfRange 7 = .ok (.if_icmp .eq 10, 3) := dk_159 0 10 (dk_at dksJ0_copyOfRange_0 7 rfl rfl)
theorem dJ0_copyOfRange_10 : decode cJ0_copyOfRange 10 = .ok (.aload_n 0, 1) := dk_42 (dk_at dksJ0_copyOfRange_0 10 rfl rfl)
theorem dJ0_copyOfRange_11 : decode cJ0_copyOfRange 11 = .ok (.iload_n 1, 1) := dk_27 (dk_at dksJ0_copyOfRange_0 11 rfl rfl)
theorem dJ0_copyOfRange_12 : decode cJ0_copyOfRange 12 = .ok (.iload_n 2, 1) := dk_28 (dk_at dksJ0_copyOfRange_0 12 rfl rfl)
theorem dJ0_copyOfRange_13 : decode cJ0_copyOfRange 13 = .ok (.invokestatic 339, 3) := dk_184 1 83 (dk_at dksJ0_copyOfRange_0 13 rfl rfl)
theorem dJ0_copyOfRange_16 : decode cJ0_copyOfRange 16 = .ok (.areturn, 1) := dk_176 (dk_at dksJ0_copyOfRange_0 16 rfl rfl)
theorem dJ0_copyOfRange_17 : decode cJ0_copyOfRange 17 = .ok (.aload_n 0, 1) := dk_42 (dk_at dksJ0_copyOfRange_0 17 rfl rfl)
theorem dJ0_copyOfRange_18 : decode cJ0_copyOfRange 18 = .ok (.invokevirtual 310, 3) := dk_182 1 54 (dk_at dksJ0_copyOfRange_0 18 rfl rfl)
theorem dJ0_copyOfRange_21 : decode cJ0_copyOfRange 21 = .ok (.checkcast 311, 3) := dk_192 1 55 (dk_at dksJ0_copyOfRange_0 21 rfl rfl)
theorem dJ0_copyOfRange_24 : decode cJ0_copyOfRange 24 = .ok (.areturn, 1) := dk_176 (dk_at dksJ0_copyOfRange_1 0 rfl rfl)
abbrev cJ0_copyOfRangeByte : ByteArray := prog_51_method_133_code
def yJ0_copyOfRangeByte : MethodName := ⟨RJ0, "copyOfRangeByte", "([BII)[B"⟩
def dkwJ0_copyOfRangeByte_1 : List UInt8 := [184, 1, 48, 184, 0, 150, 25, 4, 176]
abbrev dktJ0_copyOfRangeByte_1 : List UInt8 := dkwJ0_copyOfRangeByte_1 ++ []
def dkwJ0_copyOfRangeByte_0 : List UInt8 := [27, 28, 184, 1, 87, 28, 27, 100, 62, 29, 188, 8, 58, 4, 42, 27, 25, 4, 3, 42, 190, 27, 100, 29]
abbrev dktJ0_copyOfRangeByte_0 : List UInt8 := dkwJ0_copyOfRangeByte_0 ++ dktJ0_copyOfRangeByte_1
theorem dksJ0_copyOfRangeByte_0 : cJ0_copyOfRangeByte.data.toList.drop 0 = dktJ0_copyOfRangeByte_0 := by decide +kernel
theorem dksJ0_copyOfRangeByte_1 : cJ0_copyOfRangeByte.data.toList.drop 24 = dktJ0_copyOfRangeByte_1 := dk_seg dksJ0_copyOfRangeByte_0 24 rfl rfl
theorem dJ0_copyOfRangeByte_0 : decode cJ0_copyOfRangeByte 0 = .ok (.iload_n 1, 1) := dk_27 (dk_at dksJ0_copyOfRangeByte_0 0 rfl rfl)
theorem dJ0_copyOfRangeByte_1 : decode cJ0_copyOfRangeByte 1 = .ok (.iload_n 2, 1) := dk_28 (dk_at dksJ0_copyOfRangeByte_0 1 rfl rfl)
theorem dJ0_copyOfRangeByte_2 : decode cJ0_copyOfRangeByte 2 = .ok (.invokestatic 343, 3) := dk_184 1 87 (dk_at dksJ0_copyOfRangeByte_0 2 rfl rfl)
theorem dJ0_copyOfRangeByte_5 : decode cJ0_copyOfRangeByte 5 = .ok (.iload_n 2, 1) := dk_28 (dk_at dksJ0_copyOfRangeByte_0 5 rfl rfl)
theorem dJ0_copyOfRangeByte_6 : decode cJ0_copyOfRangeByte 6 = .ok (.iload_n 1, 1) := dk_27 (dk_at dksJ0_copyOfRangeByte_0 6 rfl rfl)
theorem dJ0_copyOfRangeByte_7 : decode cJ0_copyOfRangeByte 7 = .ok (.isub, 1) := dk_100 (dk_at dksJ0_copyOfRangeByte_0 7 rfl rfl)
theorem dJ0_copyOfRangeByte_8 : decode cJ0_copyOfRangeByte 8 = .ok (.istore_n 3, 1) := dk_62 (dk_at dksJ0_copyOfRangeByte_0 8 rfl rfl)
theorem dJ0_copyOfRangeByte_9 : decode cJ0_copyOfRangeByte 9 = .ok (.iload_n 3, 1) := dk_29 (dk_at dksJ0_copyOfRangeByte_0 9 rfl rfl)
theorem dJ0_copyOfRangeByte_10 : decode cJ0_copyOfRangeByte 10 = .ok (.newarray .byte, 2) := dk_188_8 (dk_at dksJ0_copyOfRangeByte_0 10 rfl rfl)
theorem dJ0_copyOfRangeByte_12 : decode cJ0_copyOfRangeByte 12 = .ok (.astore 4, 2) := dk_58 4 (dk_at dksJ0_copyOfRangeByte_0 12 rfl rfl)
theorem dJ0_copyOfRangeByte_14 : decode cJ0_copyOfRangeByte 14 = .ok (.aload_n 0, 1) := dk_42 (dk_at dksJ0_copyOfRangeByte_0 14 rfl rfl)
theorem dJ0_copyOfRangeByte_15 : decode cJ0_copyOfRangeByte 15 = .ok (.iload_n 1, 1) := dk_27 (dk_at dksJ0_copyOfRangeByte_0 15 rfl rfl)
theorem dJ0_copyOfRangeByte_16 : decode cJ0_copyOfRangeByte 16 = .ok (.aload 4, 2) := dk_25 4 (dk_at dksJ0_copyOfRangeByte_0 16 rfl rfl)
theorem dJ0_copyOfRangeByte_18 : decode cJ0_copyOfRangeByte 18 = .ok (.iconst 0, 1) := dk_3 (dk_at dksJ0_copyOfRangeByte_0 18 rfl rfl)
theorem dJ0_copyOfRangeByte_19 : decode cJ0_copyOfRangeByte 19 = .ok (.aload_n 0, 1) := dk_42 (dk_at dksJ0_copyOfRangeByte_0 19 rfl rfl)
theorem dJ0_copyOfRangeByte_20 : decode cJ0_copyOfRangeByte 20 = .ok (.arraylength, 1) := dk_190 (dk_at dksJ0_copyOfRangeByte_0 20 rfl rfl)
theorem dJ0_copyOfRangeByte_21 : decode cJ0_copyOfRangeByte 21 = .ok (.iload_n 1, 1) := dk_27 (dk_at dksJ0_copyOfRangeByte_0 21 rfl rfl)
theorem dJ0_copyOfRangeByte_22 : decode cJ0_copyOfRangeByte 22 = .ok (.isub, 1) := dk_100 (dk_at dksJ0_copyOfRangeByte_0 22 rfl rfl)
theorem dJ0_copyOfRangeByte_23 : decode cJ0_copyOfRangeByte 23 = .ok (.iload_n 3, 1) := dk_29 (dk_at dksJ0_copyOfRangeByte_0 23 rfl rfl)
theorem dJ0_copyOfRangeByte_24 : decode cJ0_copyOfRangeByte 24 = .ok (.invokestatic 304, 3) := dk_184 1 48 (dk_at dksJ0_copyOfRangeByte_1 0 rfl rfl)
theorem dJ0_copyOfRangeByte_27 : decode cJ0_copyOfRangeByte 27 = .ok (.invokestatic 150, 3) := dk_184 0 150 (dk_at dksJ0_copyOfRangeByte_1 3 rfl rfl)
theorem dJ0_copyOfRangeByte_30 : decode cJ0_copyOfRangeByte 30 = .ok (.aload 4, 2) := dk_25 4 (dk_at dksJ0_copyOfRangeByte_1 6 rfl rfl)
theorem dJ0_copyOfRangeByte_32 : decode cJ0_copyOfRangeByte 32 = .ok (.areturn, 1) := dk_176 (dk_at dksJ0_copyOfRangeByte_1 8 rfl rfl)
abbrev cJ0_checkLength : ByteArray := prog_51_method_131_code
def yJ0_checkLength : MethodName := ⟨RJ0, "checkLength", "(II)V"⟩
def dkwJ0_checkLength_1 : List UInt8 := [182, 0, 50, 27, 182, 0, 54, 182, 0, 61, 183, 0, 65, 191, 177]
abbrev dktJ0_checkLength_1 : List UInt8 := dkwJ0_checkLength_1 ++ []
def dkwJ0_checkLength_0 : List UInt8 := [27, 26, 162, 0, 35, 187, 0, 43, 89, 187, 0, 45, 89, 183, 0, 47, 26, 182, 0, 54, 19, 1, 81]
abbrev dktJ0_checkLength_0 : List UInt8 := dkwJ0_checkLength_0 ++ dktJ0_checkLength_1
theorem dksJ0_checkLength_0 : cJ0_checkLength.data.toList.drop 0 = dktJ0_checkLength_0 := by decide +kernel
theorem dksJ0_checkLength_1 : cJ0_checkLength.data.toList.drop 23 = dktJ0_checkLength_1 := dk_seg dksJ0_checkLength_0 23 rfl rfl
theorem dJ0_checkLength_0 : decode cJ0_checkLength 0 = .ok (.iload_n 1, 1) := dk_27 (dk_at dksJ0_checkLength_0 0 rfl rfl)
theorem dJ0_checkLength_1 : decode cJ0_checkLength 1 = .ok (.iload_n 0, 1) := dk_26 (dk_at dksJ0_checkLength_0 1 rfl rfl)
theorem dJ0_checkLength_2 : decode cJ0_checkLength 2 = .ok (.if_icmp .ge 35, 3) := dk_162 0 35 (dk_at dksJ0_checkLength_0 2 rfl rfl)
theorem dJ0_checkLength_5 : decode cJ0_checkLength 5 = .ok (.new 43, 3) := dk_187 0 43 (dk_at dksJ0_checkLength_0 5 rfl rfl)
theorem dJ0_checkLength_8 : decode cJ0_checkLength 8 = .ok (.dup, 1) := dk_89 (dk_at dksJ0_checkLength_0 8 rfl rfl)
theorem dJ0_checkLength_9 : decode cJ0_checkLength 9 = .ok (.new 45, 3) := dk_187 0 45 (dk_at dksJ0_checkLength_0 9 rfl rfl)
theorem dJ0_checkLength_12 : decode cJ0_checkLength 12 = .ok (.dup, 1) := dk_89 (dk_at dksJ0_checkLength_0 12 rfl rfl)
theorem dJ0_checkLength_13 : decode cJ0_checkLength 13 = .ok (.invokespecial 47, 3) := dk_183 0 47 (dk_at dksJ0_checkLength_0 13 rfl rfl)
theorem dJ0_checkLength_16 : decode cJ0_checkLength 16 = .ok (.iload_n 0, 1) := dk_26 (dk_at dksJ0_checkLength_0 16 rfl rfl)
theorem dJ0_checkLength_17 : decode cJ0_checkLength 17 = .ok (.invokevirtual 54, 3) := dk_182 0 54 (dk_at dksJ0_checkLength_0 17 rfl rfl)
theorem dJ0_checkLength_20 : decode cJ0_checkLength 20 = .ok (.ldc_w 337, 3) := dk_19 1 81 (dk_at dksJ0_checkLength_0 20 rfl rfl)
theorem dJ0_checkLength_23 : decode cJ0_checkLength 23 = .ok (.invokevirtual 50, 3) := dk_182 0 50 (dk_at dksJ0_checkLength_1 0 rfl rfl)
theorem dJ0_checkLength_26 : decode cJ0_checkLength 26 = .ok (.iload_n 1, 1) := dk_27 (dk_at dksJ0_checkLength_1 3 rfl rfl)
theorem dJ0_checkLength_27 : decode cJ0_checkLength 27 = .ok (.invokevirtual 54, 3) := dk_182 0 54 (dk_at dksJ0_checkLength_1 4 rfl rfl)
theorem dJ0_checkLength_30 : decode cJ0_checkLength 30 = .ok (.invokevirtual 61, 3) := dk_182 0 61 (dk_at dksJ0_checkLength_1 7 rfl rfl)
theorem dJ0_checkLength_33 : decode cJ0_checkLength 33 = .ok (.invokespecial 65, 3) := dk_183 0 65 (dk_at dksJ0_checkLength_1 10 rfl rfl)
theorem dJ0_checkLength_36 : decode cJ0_checkLength 36 = .ok (.athrow, 1) := dk_191 (dk_at dksJ0_checkLength_1 13 rfl rfl)
theorem dJ0_checkLength_37 : decode cJ0_checkLength 37 = .ok (.return_, 1) := dk_177 (dk_at dksJ0_checkLength_1 14 rfl rfl)
abbrev cJ0_copyOf_2 : ByteArray := prog_51_method_119_code
def yJ0_copyOf_2 : MethodName := ⟨RJ0, "copyOf", "([Ljava/lang/Object;I)[Ljava/lang/Object;"⟩
def dkwJ0_copyOf_2_0 : List UInt8 := [42, 27, 42, 182, 0, 86, 184, 1, 44, 176]
abbrev dktJ0_copyOf_2_0 : List UInt8 := dkwJ0_copyOf_2_0 ++ []
theorem dksJ0_copyOf_2_0 : cJ0_copyOf_2.data.toList.drop 0 = dktJ0_copyOf_2_0 := by decide +kernel
theorem dJ0_copyOf_2_0 : decode cJ0_copyOf_2 0 = .ok (.aload_n 0, 1) := dk_42 (dk_at dksJ0_copyOf_2_0 0 rfl rfl)
theorem dJ0_copyOf_2_1 : decode cJ0_copyOf_2 1 = .ok (.iload_n 1, 1) := dk_27 (dk_at dksJ0_copyOf_2_0 1 rfl rfl)
theorem dJ0_copyOf_2_2 : decode cJ0_copyOf_2 2 = .ok (.aload_n 0, 1) := dk_42 (dk_at dksJ0_copyOf_2_0 2 rfl rfl)
theorem dJ0_copyOf_2_3 : decode cJ0_copyOf_2 3 = .ok (.invokevirtual 86, 3) := dk_182 0 86 (dk_at dksJ0_copyOf_2_0 3 rfl rfl)
theorem dJ0_copyOf_2_6 : decode cJ0_copyOf_2 6 = .ok (.invokestatic 300, 3) := dk_184 1 44 (dk_at dksJ0_copyOf_2_0 6 rfl rfl)
theorem dJ0_copyOf_2_9 : decode cJ0_copyOf_2 9 = .ok (.areturn, 1) := dk_176 (dk_at dksJ0_copyOf_2_0 9 rfl rfl)
abbrev cJ0_copyOf_3 : ByteArray := prog_51_method_120_code
def yJ0_copyOf_3 : MethodName := ⟨RJ0, "copyOf", "([Ljava/lang/Object;ILjava/lang/Class;)[Ljava/lang/Object;"⟩
def dkwJ0_copyOf_3_1 : List UInt8 := [78, 42, 3, 45, 3, 42, 190, 27, 184, 1, 48, 184, 0, 150, 45, 176]
abbrev dktJ0_copyOf_3_1 : List UInt8 := dkwJ0_copyOf_3_1 ++ []
def dkwJ0_copyOf_3_0 : List UInt8 := [44, 18, 110, 166, 0, 10, 27, 189, 0, 2, 167, 0, 14, 44, 182, 0, 90, 27, 184, 0, 95, 192, 0, 110]
abbrev dktJ0_copyOf_3_0 : List UInt8 := dkwJ0_copyOf_3_0 ++ dktJ0_copyOf_3_1
theorem dksJ0_copyOf_3_0 : cJ0_copyOf_3.data.toList.drop 0 = dktJ0_copyOf_3_0 := by decide +kernel
theorem dksJ0_copyOf_3_1 : cJ0_copyOf_3.data.toList.drop 24 = dktJ0_copyOf_3_1 := dk_seg dksJ0_copyOf_3_0 24 rfl rfl
theorem dJ0_copyOf_3_0 : decode cJ0_copyOf_3 0 = .ok (.aload_n 2, 1) := dk_44 (dk_at dksJ0_copyOf_3_0 0 rfl rfl)
theorem dJ0_copyOf_3_1 : decode cJ0_copyOf_3 1 = .ok (.ldc 110, 2) := dk_18 110 (dk_at dksJ0_copyOf_3_0 1 rfl rfl)
theorem dJ0_copyOf_3_3 : decode cJ0_copyOf_3 3 = .ok (.if_acmp .ne 10, 3) := dk_166 0 10 (dk_at dksJ0_copyOf_3_0 3 rfl rfl)
theorem dJ0_copyOf_3_6 : decode cJ0_copyOf_3 6 = .ok (.iload_n 1, 1) := dk_27 (dk_at dksJ0_copyOf_3_0 6 rfl rfl)
theorem dJ0_copyOf_3_7 : decode cJ0_copyOf_3 7 = .ok (.anewarray 2, 3) := dk_189 0 2 (dk_at dksJ0_copyOf_3_0 7 rfl rfl)
theorem dJ0_copyOf_3_10 : decode cJ0_copyOf_3 10 = .ok (.goto 14, 3) := dk_167 0 14 (dk_at dksJ0_copyOf_3_0 10 rfl rfl)
theorem dJ0_copyOf_3_13 : decode cJ0_copyOf_3 13 = .ok (.aload_n 2, 1) := dk_44 (dk_at dksJ0_copyOf_3_0 13 rfl rfl)
theorem dJ0_copyOf_3_14 : decode cJ0_copyOf_3 14 = .ok (.invokevirtual 90, 3) := dk_182 0 90 (dk_at dksJ0_copyOf_3_0 14 rfl rfl)
theorem dJ0_copyOf_3_17 : decode cJ0_copyOf_3 17 = .ok (.iload_n 1, 1) := dk_27 (dk_at dksJ0_copyOf_3_0 17 rfl rfl)
theorem dJ0_copyOf_3_18 : decode cJ0_copyOf_3 18 = .ok (.invokestatic 95, 3) := dk_184 0 95 (dk_at dksJ0_copyOf_3_0 18 rfl rfl)
theorem dJ0_copyOf_3_21 : decode cJ0_copyOf_3 21 = .ok (.checkcast 110, 3) := dk_192 0 110 (dk_at dksJ0_copyOf_3_0 21 rfl rfl)
theorem dJ0_copyOf_3_24 : decode cJ0_copyOf_3 24 = .ok (.astore_n 3, 1) := dk_78 (dk_at dksJ0_copyOf_3_1 0 rfl rfl)
theorem dJ0_copyOf_3_25 : decode cJ0_copyOf_3 25 = .ok (.aload_n 0, 1) := dk_42 (dk_at dksJ0_copyOf_3_1 1 rfl rfl)
theorem dJ0_copyOf_3_26 : decode cJ0_copyOf_3 26 = .ok (.iconst 0, 1) := dk_3 (dk_at dksJ0_copyOf_3_1 2 rfl rfl)
theorem dJ0_copyOf_3_27 : decode cJ0_copyOf_3 27 = .ok (.aload_n 3, 1) := dk_45 (dk_at dksJ0_copyOf_3_1 3 rfl rfl)
theorem dJ0_copyOf_3_28 : decode cJ0_copyOf_3 28 = .ok (.iconst 0, 1) := dk_3 (dk_at dksJ0_copyOf_3_1 4 rfl rfl)
theorem dJ0_copyOf_3_29 : decode cJ0_copyOf_3 29 = .ok (.aload_n 0, 1) := dk_42 (dk_at dksJ0_copyOf_3_1 5 rfl rfl)
theorem dJ0_copyOf_3_30 : decode cJ0_copyOf_3 30 = .ok (.arraylength, 1) := dk_190 (dk_at dksJ0_copyOf_3_1 6 rfl rfl)
theorem dJ0_copyOf_3_31 : decode cJ0_copyOf_3 31 = .ok (.iload_n 1, 1) := dk_27 (dk_at dksJ0_copyOf_3_1 7 rfl rfl)
theorem dJ0_copyOf_3_32 : decode cJ0_copyOf_3 32 = .ok (.invokestatic 304, 3) := dk_184 1 48 (dk_at dksJ0_copyOf_3_1 8 rfl rfl)
theorem dJ0_copyOf_3_35 : decode cJ0_copyOf_3 35 = .ok (.invokestatic 150, 3) := dk_184 0 150 (dk_at dksJ0_copyOf_3_1 11 rfl rfl)
theorem dJ0_copyOf_3_38 : decode cJ0_copyOf_3 38 = .ok (.aload_n 3, 1) := dk_45 (dk_at dksJ0_copyOf_3_1 14 rfl rfl)
theorem dJ0_copyOf_3_39 : decode cJ0_copyOf_3 39 = .ok (.areturn, 1) := dk_176 (dk_at dksJ0_copyOf_3_1 15 rfl rfl)
theorem q135 : (Jvm.Cond.initialized "java/util/Arrays") ∈ lw_all := lw_g (lw_at lw_m1 3 rfl) rfl
theorem q192 : (Jvm.Cond.static ({ cls := "java/util/Arrays", name := "fill", desc := "([II)V" } : Jvm.MethodName)) ∈ lw_all := lw_g (lw_at lw_m1 60 rfl) rfl
theorem q193 : (Jvm.Cond.code ({ cls := "java/util/Arrays", name := "fill", desc := "([II)V" } : Jvm.MethodName) prog_51_method_103_code (4 : Nat) (Option.none : Option Jvm.ClassFile.FieldType)) ∈ lw_all := lw_g (lw_at lw_m1 61 rfl) rfl
theorem q925 : (Jvm.Cond.static ({ cls := "java/util/Arrays", name := "copyOf", desc := "([BI)[B" } : Jvm.MethodName)) ∈ lw_all := lw_g (lw_at lw_m4 73 rfl) rfl
theorem q926 : (Jvm.Cond.code ({ cls := "java/util/Arrays", name := "copyOf", desc := "([BI)[B" } : Jvm.MethodName) prog_51_method_121_code (3 : Nat) (Option.some (Jvm.ClassFile.FieldType.array Jvm.ClassFile.FieldType.byte))) ∈ lw_all := lw_g (lw_at lw_m4 74 rfl) rfl
theorem q927 : (Jvm.Cond.methodLink "java/util/Arrays" (310 : Nat) ({ cls := "[B", name := "clone", desc := "()Ljava/lang/Object;" } : Jvm.MethodName)) ∈ lw_all := lw_g (lw_at lw_m4 75 rfl) rfl
theorem q933 : (Jvm.Cond.classLink "java/util/Arrays" (311 : Nat) "[B") ∈ lw_all := lw_g (lw_at lw_m4 81 rfl) rfl
theorem q934 : (Jvm.Cond.methodLink "java/util/Arrays" (304 : Nat) ({ cls := "java/lang/Math", name := "min", desc := "(II)I" } : Jvm.MethodName)) ∈ lw_all := lw_g (lw_at lw_m4 82 rfl) rfl
theorem q935 : (Jvm.Cond.methodLink "java/util/Arrays" (150 : Nat) ({ cls := "java/lang/System", name := "arraycopy", desc := "(Ljava/lang/Object;ILjava/lang/Object;II)V" } : Jvm.MethodName)) ∈ lw_all := lw_g (lw_at lw_m4 83 rfl) rfl
theorem q1015 : (Jvm.Cond.static ({ cls := "java/util/Arrays", name := "copyOfRange", desc := "([BII)[B" } : Jvm.MethodName)) ∈ lw_all := lw_g (lw_at lw_m4 163 rfl) rfl
theorem q1016 : (Jvm.Cond.code ({ cls := "java/util/Arrays", name := "copyOfRange", desc := "([BII)[B" } : Jvm.MethodName) prog_51_method_132_code (3 : Nat) (Option.some (Jvm.ClassFile.FieldType.array Jvm.ClassFile.FieldType.byte))) ∈ lw_all := lw_g (lw_at lw_m4 164 rfl) rfl
theorem q1017 : (Jvm.Cond.methodLink "java/util/Arrays" (339 : Nat) ({ cls := "java/util/Arrays", name := "copyOfRangeByte", desc := "([BII)[B" } : Jvm.MethodName)) ∈ lw_all := lw_g (lw_at lw_m4 165 rfl) rfl
theorem q1018 : (Jvm.Cond.static ({ cls := "java/util/Arrays", name := "copyOfRangeByte", desc := "([BII)[B" } : Jvm.MethodName)) ∈ lw_all := lw_g (lw_at lw_m4 166 rfl) rfl
theorem q1019 : (Jvm.Cond.code ({ cls := "java/util/Arrays", name := "copyOfRangeByte", desc := "([BII)[B" } : Jvm.MethodName) prog_51_method_133_code (5 : Nat) (Option.some (Jvm.ClassFile.FieldType.array Jvm.ClassFile.FieldType.byte))) ∈ lw_all := lw_g (lw_at lw_m4 167 rfl) rfl
theorem q1020 : (Jvm.Cond.methodLink "java/util/Arrays" (343 : Nat) ({ cls := "java/util/Arrays", name := "checkLength", desc := "(II)V" } : Jvm.MethodName)) ∈ lw_all := lw_g (lw_at lw_m4 168 rfl) rfl
theorem q1021 : (Jvm.Cond.static ({ cls := "java/util/Arrays", name := "checkLength", desc := "(II)V" } : Jvm.MethodName)) ∈ lw_all := lw_g (lw_at lw_m4 169 rfl) rfl
theorem q1022 : (Jvm.Cond.code ({ cls := "java/util/Arrays", name := "checkLength", desc := "(II)V" } : Jvm.MethodName) prog_51_method_131_code (2 : Nat) (Option.none : Option Jvm.ClassFile.FieldType)) ∈ lw_all := lw_g (lw_at lw_m4 170 rfl) rfl
theorem q1023 : (Jvm.Cond.classLink "java/util/Arrays" (43 : Nat) "java/lang/IllegalArgumentException") ∈ lw_all := lw_g (lw_at lw_m4 171 rfl) rfl
theorem q1068 : (Jvm.Cond.classLink "java/util/Arrays" (45 : Nat) "java/lang/StringBuilder") ∈ lw_all := lw_g (lw_at lw_m4 216 rfl) rfl
theorem q1069 : (Jvm.Cond.methodLink "java/util/Arrays" (47 : Nat) ({ cls := "java/lang/StringBuilder", name := "<init>", desc := "()V" } : Jvm.MethodName)) ∈ lw_all := lw_g (lw_at lw_m4 217 rfl) rfl
theorem q1070 : (Jvm.Cond.methodLink "java/util/Arrays" (54 : Nat) ({ cls := "java/lang/StringBuilder", name := "append", desc := "(I)Ljava/lang/StringBuilder;" } : Jvm.MethodName)) ∈ lw_all := lw_g (lw_at lw_m4 218 rfl) rfl
theorem q1104 : (Jvm.Cond.stringRef "java/util/Arrays" (337 : Nat) " > ") ∈ lw_tbl := lw_at lw_m5 12 rfl
theorem q1105 : (Jvm.Cond.methodLink "java/util/Arrays" (50 : Nat) ({ cls := "java/lang/StringBuilder", name := "append", desc := "(Ljava/lang/String;)Ljava/lang/StringBuilder;" } : Jvm.MethodName)) ∈ lw_all := lw_g (lw_at lw_m5 13 rfl) rfl
theorem q1143 : (Jvm.Cond.methodLink "java/util/Arrays" (61 : Nat) ({ cls := "java/lang/StringBuilder", name := "toString", desc := "()Ljava/lang/String;" } : Jvm.MethodName)) ∈ lw_all := lw_g (lw_at lw_m5 51 rfl) rfl
theorem q1144 : (Jvm.Cond.methodLink "java/util/Arrays" (65 : Nat) ({ cls := "java/lang/IllegalArgumentException", name := "<init>", desc := "(Ljava/lang/String;)V" } : Jvm.MethodName)) ∈ lw_all := lw_g (lw_at lw_m5 52 rfl) rfl
theorem q1569 : (Jvm.Cond.static ({ cls := "java/util/Arrays", name := "copyOf", desc := "([Ljava/lang/Object;I)[Ljava/lang/Object;" } : Jvm.MethodName)) ∈ lw_all := lw_g (lw_at lw_m6 237 rfl) rfl
theorem q1570 : (Jvm.Cond.code ({ cls := "java/util/Arrays", name := "copyOf", desc := "([Ljava/lang/Object;I)[Ljava/lang/Object;" } : Jvm.MethodName) prog_51_method_119_code (2 : Nat) (Option.some (Jvm.ClassFile.FieldType.array (Jvm.ClassFile.FieldType.object "java/lang/Object")))) ∈ lw_all := lw_g (lw_at lw_m6 238 rfl) rfl
theorem q1571 : (Jvm.Cond.methodLink "java/util/Arrays" (86 : Nat) ({ cls := "java/lang/Object", name := "getClass", desc := "()Ljava/lang/Class;" } : Jvm.MethodName)) ∈ lw_all := lw_g (lw_at lw_m6 239 rfl) rfl
theorem q1603 : (Jvm.Cond.methodLink "java/util/Arrays" (300 : Nat) ({ cls := "java/util/Arrays", name := "copyOf", desc := "([Ljava/lang/Object;ILjava/lang/Class;)[Ljava/lang/Object;" } : Jvm.MethodName)) ∈ lw_all := lw_g (lw_at lw_m7 31 rfl) rfl
theorem q1604 : (Jvm.Cond.static ({ cls := "java/util/Arrays", name := "copyOf", desc := "([Ljava/lang/Object;ILjava/lang/Class;)[Ljava/lang/Object;" } : Jvm.MethodName)) ∈ lw_all := lw_g (lw_at lw_m7 32 rfl) rfl
theorem q1605 : (Jvm.Cond.code ({ cls := "java/util/Arrays", name := "copyOf", desc := "([Ljava/lang/Object;ILjava/lang/Class;)[Ljava/lang/Object;" } : Jvm.MethodName) prog_51_method_120_code (4 : Nat) (Option.some (Jvm.ClassFile.FieldType.array (Jvm.ClassFile.FieldType.object "java/lang/Object")))) ∈ lw_all := lw_g (lw_at lw_m7 33 rfl) rfl
theorem q1606 : (Jvm.Cond.classLink "java/util/Arrays" (110 : Nat) "[Ljava/lang/Object;") ∈ lw_all := lw_g (lw_at lw_m7 34 rfl) rfl
theorem q1608 : (Jvm.Cond.classLink "java/util/Arrays" (2 : Nat) "java/lang/Object") ∈ lw_all := lw_g (lw_at lw_m7 36 rfl) rfl

/-! MAKING: new cells come at the heap's end; a constructor's walk knows all that it has made, at a, a+1 .. -/
section NEWC
variable {p : Program} {l : Launch} {e : Env} {R : Room} {s : State} {m : MethodId} {args : Array Value} {below : List Frame} {meth : Method} {c : Code} {H : Heap} {locs : List Loc} {cells slots : Nat} {Q : State → Prop}
variable {cc : ByteArray} {pc : Nat} {ls : Array Slot} {rest : List Value} {D : va_G} {cl : List vw_C} {a : Nat} {tys : List (ClassId × FieldType)}
theorem gnew (hx : p.tables.exec = Jvm.exec) (hb : c.code = cc) (hts : ∀ w ∈ lw_all, w.before args s = true) {own C : String} {T : u_T} {N ci index : Nat} (hin : ∀ w ∈ u_ws C T N, w ∈ lw_all) (ty0 : Nat → FieldType) (hty : ∀ k, k < N → parseFieldDescriptor (T k).2.2.1 = some (ty0 k)) (hown : s.vm.findClass own = some m.cls) (hcl : Cond.classLink own index C ∈ lw_all) (hinst : Cond.instantiable C N ∈ lw_all) (hini : Cond.initialized C ∈ lw_all) (hK : va_K D cl tys s) (hc : cl[ci]? = some (C, T, N)) {fs : List Value} (hfs : ∀ j, j < N → defaultValue (ty0 j) = vp_V fs j) {h : Nat} (hh : H.size = h) (hcells : cells + 1 ≤ R.cells) (hslots : slots + N ≤ R.slots) (hdg : decode cc pc = .ok (.new index, 3))
    (kk : ∀ H1 : Heap, va_at D cl (h, .inr (ci, fs)) H1 → H1.size = h + 1 → (∀ q : Nat, q < h → H1[q]? = H[q]?) → W p l e R s m args below meth c H1 locs (cells + 1) (slots + N) Q (F0 m (pc + 3) ls (.ref h :: rest))) : W p l e R s m args below meth c H locs cells slots Q (F0 m pc ls rest) := by
  have hKn := hK.1 ci _ hc
  refine W.newcK hx hb hown (hts _ hcl) (hts _ hinst) (hts _ hini) rfl hdg hcells hslots hKn.2.1 hh fun H1 kC hkC e1 z1 o1 => ?_
  exact kk H1 ⟨_, hc, (u_born ty0 hts hin hKn hkC e1 hty).to hfs⟩ z1 o1
theorem gnewa (hx : p.tables.exec = Jvm.exec) (hb : c.code = cc) (hts : ∀ w ∈ lw_all, w.before args s = true) {atype : ArrayType} (harr : Cond.arrayClass (newarray.typeOf atype) ∈ lw_all) {ty : FieldType} (hty : newarray.typeOf atype = ty) {cA : ClassId} (hRA : s.vm.findClass ("[" ++ ty.toString) = some cA) {n : Int32} {N' : Nat} {a0 : vp_A} (ha : ∀ cA : ClassId, vp_cell cA a0 = arrV cA N' (fun _ => defaultValue ty)) (hn : ¬ n < 0) (hN : n.toNatClampNeg = N') (hbytes : N' * componentBytes ty ≤ 536870912) {h : Nat} (hh : H.size = h) (hcells : cells + 1 ≤ R.cells) (hslots : slots + N' ≤ R.slots) (hdg : decode cc pc = .ok (.newarray atype, 2))
    (kk : ∀ H1 : Heap, va_at D cl (h, .inl (cA, a0)) H1 → H1.size = h + 1 → (∀ q : Nat, q < h → H1[q]? = H[q]?) → W p l e R s m args below meth c H1 locs (cells + 1) (slots + N') Q (F0 m (pc + 2) ls (.ref h :: rest))) : W p l e R s m args below meth c H locs cells slots Q (F0 m pc ls (.int n :: rest)) := by
  subst hty
  refine va_newaK hx hb (hts _ harr) rfl hdg rfl hn hN hbytes hcells hslots hh fun H1 cB e1 z1 o1 hAr hNm => ?_
  have : cB = cA := Option.some.inj (hNm.symm.trans hRA)
  subst this
  refine kk H1 ?_ z1 o1
  show H1[h]? = some (vp_cell _ _)
  rw [ha]
  exact e1
/-- a final field, in its class's constructor -/
theorem gputF (hx : p.tables.exec = Jvm.exec) (hb : c.code = cc) (hts : ∀ w ∈ lw_all, w.before args s = true) {own C : String} {T : u_T} {N ci index : Nat} {fs : List Value} (hin : ∀ w ∈ u_ws C T N, w ∈ lw_all) (ty0 : Nat → FieldType) (hty : ∀ k, k < N → parseFieldDescriptor (T k).2.2.1 = some (ty0 k)) (hnm : ∀ a, a < N → ∀ b, b < N → a ≠ b → (T a).2.1 ≠ (T b).2.1) (hown : s.vm.findClass own = some m.cls) (hK : va_K D cl tys s) (hat : va_at D cl (a, .inr (ci, fs)) H) (hc : cl[ci]? = some (C, T, N)) (k : Nat) (hk : k < N) (hl : Cond.fieldLink own index (T k).1 (T k).2.1 (T k).2.2.1 ∈ lw_all) (hfin : (T k).2.2.2 = true) (hin2 : meth.name = "<init>") (hdecl : (T k).1 = own) {v : Value} (hn : narrow (ty0 k) v = v) (hfit : fits (ty0 k) v = true) (hll : k < fs.length)
    (hdg : decode cc pc = .ok (.putfield index, 3)) (kk : ∀ (H1 : Heap) (locs1 : List Loc), va_at D cl (a, .inr (ci, fs.set k v)) H1 → H1.size = H.size → (∀ q : Nat, q ≠ a → H1[q]? = H[q]?) → (∀ l ∈ locs1, l ∈ locs ∨ l.base = a) → W p l e R s m args below meth c H1 locs1 cells slots Q (F0 m (pc + 3) ls rest)) : W p l e R s m args below meth c H locs cells slots Q (F0 m pc ls (v :: .ref a :: rest)) := by
  have hap := va_apart (own := own) hts hin ty0 hty hnm hK hc
  obtain ⟨r, h1, cell, q1, q2, q3, q4⟩ := hat
  have hr : r = (C, T, N) := Option.some.inj (h1.symm.trans hc)
  subst hr
  obtain ⟨hS, hfc, kC, hkC, hkind⟩ := hK.1 ci _ hc
  obtain ⟨cf, kf, fi, f, hi, hsl⟩ := hS k hk
  have hlay := hts _ (hin _ (u_in_lay hk))
  unfold u_lay at hlay
  rw [if_pos hfin] at hlay
  have hst := (u_facts hfc hkC (u_lays hts hin hk) hi).1
  have hcf : m.cls = cf := by
    obtain ⟨_, _, c', _, _, _, -, -, hf', -, -, -, hown2, -⟩ := Cond.laysFinal_spec hlay
    have e1 : c' = cf := by have := hi.symm.trans hf'; simp at this; exact this.1.symm
    rw [hdecl] at hown2
    rw [← e1]; exact Option.some.inj (hown.symm.trans hown2)
  have h6 := u_fits hfc hkC hkind (Or.inr hlay) hi (hty k hk) hn hfit
  refine W.putFinK hx hb hown (hts _ hl) hi hst hcf hin2 (by rw [q2]; exact h6) q1 q3 (by rw [hsl]; exact k2_hasslot (q4 k hk)) rfl rfl hdg fun H' e1 e2 e3 => ?_
  rw [hsl] at e1 ⊢
  refine kk H' _ ⟨_, hc, t_OB.to (V := updV (vp_V fs) k v) ⟨_, e1, q2, q3, t_set q4 hap hk v⟩ (fun j _ => vp_updV_set hll v j)⟩ e2 e3 (fun l hl9 => ?_)
  rcases List.mem_append.mp hl9 with h | h
  · exact Or.inl h
  · right
    rw [List.mem_singleton.mp h]
def CW (a : Nat) (ws : va_W) : Prop := ∀ (i : Nat) (q : Nat × va_E), ws[i]? = some q → q.1 = a + i
theorem CW.app {a : Nat} {ws w1 : va_W} (h : CW a ws) (h1 : CW (a + ws.length) w1) : CW a (ws ++ w1) := by
  intro i q hq
  rcases Nat.lt_or_ge i ws.length with g | g
  · rw [List.getElem?_append_left g] at hq
    exact h i q hq
  · rw [List.getElem?_append_right g] at hq
    have := h1 _ q hq
    omega
theorem CW.one {a : Nat} {e : va_E} : CW a [(a, e)] := by
  intro i q hq
  match i, hq with
  | 0, hq => cases hq; rfl
  | i + 1, hq => cases hq
theorem CW.set {a : Nat} {ws : va_W} (h : CW a ws) {P x : Nat} {e0 e1 : va_E} (h0 : ws[P]? = some (x, e0)) : CW a (ws.set P (x, e1)) := by
  intro i q hq
  by_cases g : i = P
  · subst g
    rw [List.getElem?_set_self (List.getElem?_eq_some_iff.mp h0).1] at hq
    cases hq
    have h9 := h i _ h0
    exact h9
  · rw [List.getElem?_set_ne (Ne.symm g)] at hq
    exact h i q hq
/-- all that has been made from a on -/
def IN (D : va_G) (cl : List vw_C) (a : Nat) (ws : va_W) (s : State) (H : Heap) (locs : List Loc) : Prop := va_P D cl ws H ∧ CW a ws ∧ H.size = a + ws.length ∧ va_S (fun q => a ≤ q) s.heap H locs
theorem IN.put {ws ws' : va_W} (hI : IN D cl a ws s H locs) {P x : Nat} {e0 e1 : va_E} {H1 : Heap} {locs1 : List Loc} (h0 : ws[P]? = some (x, e0)) (hs : ws.set P (x, e1) = ws') (hat : va_at D cl (x, e1) H1) (hz : H1.size = H.size) (hq : ∀ q : Nat, q ≠ x → H1[q]? = H[q]?) (hl : ∀ l ∈ locs1, l ∈ locs ∨ l.base = x) : IN D cl a ws' s H1 locs1 := by
  have hx := hI.2.1 P _ h0
  have hx2 : x = a + P := hx
  have hl0 := (List.getElem?_eq_some_iff.mp h0).1
  subst hs
  refine ⟨fun k q hk => ?_, hI.2.1.set h0, by rw [hz, List.length_set]; exact hI.2.2.1, by rw [hz]; exact hI.2.2.2.1, fun q h1 h2 => (hq q (fun e => h2 (by show a ≤ q; omega))).trans (hI.2.2.2.2.1 q h1 h2), fun l h9 => ?_⟩
  · by_cases g : k = P
    · subst g
      rw [List.getElem?_set_self hl0] at hk
      cases hk
      exact hat
    · rw [List.getElem?_set_ne (Ne.symm g)] at hk
      have := hI.2.1 k q hk
      exact (hI.1 k q hk).kept (hq q.1 (by omega))
  · rcases hl l h9 with g | g
    · exact hI.2.2.2.2.2 l g
    · show a ≤ l.base
      rw [g, hx2]
      exact Nat.le_add_right _ _
theorem IN.new {ws ws' : va_W} (hI : IN D cl a ws s H locs) {h : Nat} (hh : h = a + ws.length) {e : va_E} {H1 : Heap} (hw : ws ++ [(h, e)] = ws') (hat : va_at D cl (h, e) H1) (hz : H1.size = h + 1) (hq : ∀ q : Nat, q < h → H1[q]? = H[q]?) : IN D cl a ws' s H1 locs := by
  subst hw
  have hz0 := hI.2.2.1
  refine ⟨(hI.1.kept (fun k q hk => hq q.1 (by have := (hI.1 k q hk).lt; omega))).app (fun k q hk => ?_), hI.2.1.app (by rw [← hh]; exact CW.one), by rw [hz, List.length_append, hh]; rfl, by have := hI.2.2.2.1; omega, fun q h1 h2 => (hq q (by have := hI.2.2.2.1; omega)).trans (hI.2.2.2.2.1 q h1 h2), hI.2.2.2.2.2⟩
  match k, hk with
  | 0, hk => cases hk; exact hat
/-- behind a constructor's call: its object was the last cell -/
theorem IN.call {ws wr w1 ws' : va_W} (hI : IN D cl a ws s H locs) {b : Nat} {e : va_E} (hr : wr ++ [(b, e)] = ws) (hw : wr ++ w1 = ws') {H1 : Heap} {locs1 : List Loc} (hP : va_P D cl w1 H1) (hC : CW b w1) (hz : H1.size = b + w1.length) (hq : ∀ q : Nat, q < H.size → ¬ b ≤ q → H1[q]? = H[q]?) (hS : va_S (fun q => a ≤ q) s.heap H1 locs1) : IN D cl a ws' s H1 locs1 := by
  subst hr
  subst hw
  have hb : b = a + wr.length := hI.2.1 wr.length (b, e) (by rw [List.getElem?_append_right (Nat.le_refl _), Nat.sub_self]; rfl)
  have hP0 : va_P D cl wr H := fun k q hk => hI.1 k q (by rw [List.getElem?_append_left (List.getElem?_eq_some_iff.mp hk).1]; exact hk)
  have hC0 : CW a wr := fun k q hk => hI.2.1 k q (by rw [List.getElem?_append_left (List.getElem?_eq_some_iff.mp hk).1]; exact hk)
  refine ⟨(hP0.kept (fun k q hk => hq q.1 (hP0 k q hk).lt (by have := hC0 k q hk; have := (List.getElem?_eq_some_iff.mp hk).1; omega))).app hP, hC0.app (by rw [← hb]; exact hC), by rw [hz, List.length_append, hb]; omega, hS⟩
theorem IN.row {ws ws' : va_W} (hI : IN D cl a ws s H locs) {P x : Nat} {e0 e1 : va_E} {H1 : Heap} {locs1 : List Loc} (h0 : ws[P]? = some (x, e0)) (hs : ws.set P (x, e1) = ws') (hat : va_at D cl (x, e1) H1) (hz : H1.size = H.size) (hq : ∀ q : Nat, q < H.size → ¬ q = x → H1[q]? = H[q]?) (hS : va_S (fun q => a ≤ q) s.heap H1 locs1) : IN D cl a ws' s H1 locs1 := by
  have hx := hI.2.1 P _ h0
  have hx2 : x = a + P := hx
  have hl0 := (List.getElem?_eq_some_iff.mp h0).1
  subst hs
  refine ⟨fun k q hk => ?_, hI.2.1.set h0, by rw [hz, List.length_set]; exact hI.2.2.1, hS⟩
  by_cases g : k = P
  · subst g
    rw [List.getElem?_set_self hl0] at hk
    cases hk
    exact hat
  · rw [List.getElem?_set_ne (Ne.symm g)] at hk
    have := hI.2.1 k q hk
    exact (hI.1 k q hk).kept (hq q.1 (hI.1 k q hk).lt (by omega))
theorem IN.zS {ws : va_W} (hI : IN D cl a ws s H locs) {z : Nat} (hz : z ≤ a) : va_S (zZ z) s.heap H locs := ⟨hI.2.2.2.1, fun q h1 h2 => hI.2.2.2.2.1 q h1 (fun h3 => h2 (Nat.le_trans hz h3)), fun l hl => Nat.le_trans hz (hI.2.2.2.2.2 l hl)⟩
end NEWC
/-- a constructor's contract: the object, new, at a; behind it all that it has made, from a on -/
def MKc (y : MethodName) (cd : ByteArray) (nL fr lo mc ms : Nat) (E : va_G → (Nat → ClassId) → Nat → State → Prop) (cl : List vw_C) (As : Nat → List Value) (e0 : va_E) (w1 : (Nat → ClassId) → Nat → va_W) : Prop :=
  ∀ (l : Launch) (D : va_G) (J : Nat → ClassId) (z a : Nat), z ≤ a → Met l y (ws_ y cd nL none) ({ frames := fr, cells := mc, slots := ms, locals := lo }) (va_Pc (.ref a :: As a) (fun U => U.heap.size = a + 1 ∧ va_at D cl (a, e0) U.heap ∧ E D J z U)) (va_Qv (fun (_ : Unit) => True) (fun _ t => va_P D cl (w1 J a) t.heap ∧ t.heap.size = a + (w1 J a).length) (fun q => a ≤ q)) mc ms (fun q => a ≤ q)
/-- ArrayList's empty array, which all new lists share -/
def AlE (J : Nat → ClassId) (z e0 : Nat) (U : State) : Prop := va_Z "java/util/ArrayList" "DEFAULTCAPACITY_EMPTY_ELEMENTDATA" "[Ljava/lang/Object;" (.ref e0) (fun q => z ≤ q) U U.heap ∧ ¬ z ≤ e0 ∧ U.heap[e0]? = some (vp_cell (J 4) (0, .inr (.inr (.inr (.inr fun _ => none)))))
theorem AlE.go {J : Nat → ClassId} {z e0 : Nat} {s U : State} (h : AlE J z e0 s) (hW : s.WarmedH U.vm) (hq : ∀ q : Nat, q < s.heap.size → ¬ z ≤ q → U.heap[q]? = s.heap[q]?) : AlE J z e0 U :=
  ⟨va_Z.moved hW.alike (h.1.kept hq), h.2.1, by rw [hq e0 (Array.getElem?_eq_some_iff.mp h.2.2).1 h.2.1]; exact h.2.2⟩
def EM (aK aV : Nat → Nat) (e0 : Nat) (D : va_G) (J : Nat → ClassId) (z : Nat) (U : State) : Prop := EC D J z aK aV U ∧ AlE J z e0 U
theorem EM.go {aK aV : Nat → Nat} {e0 : Nat} {D : va_G} {J : Nat → ClassId} {z : Nat} {s U : State} (h : EM aK aV e0 D J z s) (hW : s.WarmedH U.vm) (hq : ∀ q : Nat, q < s.heap.size → ¬ z ≤ q → U.heap[q]? = s.heap[q]?) : EM aK aV e0 D J z U := ⟨h.1.go hW hq, h.2.go hW hq⟩
def ENM (aK aV : Nat → Nat) (D : va_G) (J : Nat → ClassId) (z : Nat) (U : State) : Prop := EN D (J 0) (J 1) z aK aV U
theorem ENM.go {aK aV : Nat → Nat} {D : va_G} {J : Nat → ClassId} {z : Nat} {s U : State} (h : ENM aK aV D J z s) (hW : s.WarmedH U.vm) (hq : ∀ q : Nat, q < s.heap.size → ¬ z ≤ q → U.heap[q]? = s.heap[q]?) : ENM aK aV D J z U := EN.go h hW hq
/-- a new world's numbers -/
def w0 : Mm := fun r j => if r = 0 then (if j = 5 then 1 else if j = 8 then 1 else 0) else if r = 9 then 2 else 0
/-- Arrays.fill of four ints -/
def FillC : Prop := ∀ (l : Launch) (D : va_G) (J : Nat → ClassId) (z a : Nat) (aK aV : Nat → Nat) (e0 sz : Nat) (f : Nat → Int32) (x : Int32), z ≤ a →
  Met l yJ0_fill (ws_ yJ0_fill cJ0_fill 4 none) ({ frames := 1, cells := 0, slots := 0, locals := 40 }) (va_Pc [.ref a, .int x] (fun U => (U.heap.size = sz ∧ va_at D vwC (a, .inl (J 0, 4, .inl f)) U.heap) ∧ EM aK aV e0 D J z U)) (va_Qv (fun (_ : Unit) => True) (fun _ t => t.heap.size = sz ∧ va_at D vwC (a, .inl (J 0, 4, .inl (fun _ => x))) t.heap) (fun q => q = a)) 0 0 (fun q => q = a)

theorem dvX2 : ∀ j, j < 29 → defaultValue (tyX2 j) = vp_V [.int 0, .int 0, .int 0, .int 0, .int 0, .int 0, .int 0, .int 0, .int 0, .null, .null, .null, .null, .null, .null, .null, .null, .null, .null, .null, .null, .null, .null, .null, .null, .null, .null, .null, .null] j := by
  intro j hj
  match j, hj with
  | 0, _ => rfl
  | 1, _ => rfl
  | 2, _ => rfl
  | 3, _ => rfl
  | 4, _ => rfl
  | 5, _ => rfl
  | 6, _ => rfl
  | 7, _ => rfl
  | 8, _ => rfl
  | 9, _ => rfl
  | 10, _ => rfl
  | 11, _ => rfl
  | 12, _ => rfl
  | 13, _ => rfl
  | 14, _ => rfl
  | 15, _ => rfl
  | 16, _ => rfl
  | 17, _ => rfl
  | 18, _ => rfl
  | 19, _ => rfl
  | 20, _ => rfl
  | 21, _ => rfl
  | 22, _ => rfl
  | 23, _ => rfl
  | 24, _ => rfl
  | 25, _ => rfl
  | 26, _ => rfl
  | 27, _ => rfl
  | 28, _ => rfl
  | j + 29, h => exact absurd h (by omega)
theorem dvX3 : ∀ j, j < 7 → defaultValue (tyX3 j) = vp_V [.null, .int 0, .int 0, .int 0, .int 0, .int 0, .int 0] j := by
  intro j hj
  match j, hj with
  | 0, _ => rfl
  | 1, _ => rfl
  | 2, _ => rfl
  | 3, _ => rfl
  | 4, _ => rfl
  | 5, _ => rfl
  | 6, _ => rfl
  | j + 7, h => exact absurd h (by omega)
theorem dvX4 : ∀ j, j < 9 → defaultValue (tyX4 j) = vp_V [.int 0, .int 0, .int 0, .int 0, .int 0, .int 0, .int 0, .int 0, .int 0] j := by
  intro j hj
  match j, hj with
  | 0, _ => rfl
  | 1, _ => rfl
  | 2, _ => rfl
  | 3, _ => rfl
  | 4, _ => rfl
  | 5, _ => rfl
  | 6, _ => rfl
  | 7, _ => rfl
  | 8, _ => rfl
  | j + 9, h => exact absurd h (by omega)
theorem dvX5 : ∀ j, j < 5 → defaultValue (tyX5 j) = vp_V [.int 0, .int 0, .int 0, .long 0, .null] j := by
  intro j hj
  match j, hj with
  | 0, _ => rfl
  | 1, _ => rfl
  | 2, _ => rfl
  | 3, _ => rfl
  | 4, _ => rfl
  | j + 5, h => exact absurd h (by omega)
theorem dvX6 : ∀ j, j < 3 → defaultValue (tyX6 j) = vp_V [.null, .null, .null] j := by
  intro j hj
  match j, hj with
  | 0, _ => rfl
  | 1, _ => rfl
  | 2, _ => rfl
  | j + 3, h => exact absurd h (by omega)
theorem dvJ3 : ∀ j, j < 3 → defaultValue (tyJ3 j) = vp_V [.int 0, .null, .int 0] j := by
  intro j hj
  match j, hj with
  | 0, _ => rfl
  | 1, _ => rfl
  | 2, _ => rfl
  | j + 3, h => exact absurd h (by omega)
set_option maxHeartbeats 4000000 in
theorem mJ0_fill : FillC := by
  intro l D J z a aK aV e0 sz f x hz
  refine Met.ofW (cc := cJ0_fill) (maxL := 4) (ret := none) (by decide) rfl ?_
  intro p e s m args below meth c s₁ B hml hv
  obtain ⟨rfl, ⟨hsz, hat⟩, hE⟩ := hv
  have hts := atoms_spec (ws := ws_ yJ0_fill cJ0_fill 4 none) B.pre
  have hts : ∀ w ∈ lw_all, w.before _ s = true := fun w h => hts w (List.mem_cons_of_mem _ h)
  have hl := lv_entry [.ref a, .int x] (n := 4) (Nat.le_of_ble_eq_true rfl)
  rw [lg_entry_eq]
  generalize (lg_sl [.ref a, .int x] ++ List.replicate (4 - (lg_sl [.ref a, .int x]).length) Slot.unset).toArray = ls at hl ⊢
  have hl : lv_has ls 4 [(0, .ref a), (1, .int x)] := hl
  have hx := B.exec
  have hb := B.bytes
  obtain ⟨H, eH⟩ : ∃ H, H = s.heap := ⟨_, rfl⟩
  obtain ⟨locs, eL⟩ : ∃ L : List Loc, L = [] := ⟨_, rfl⟩
  have hS : va_S (fun q => q = a) s.heap H locs := by rw [eH, eL]; exact va_S.rf
  rw [← eH, ← eL]
  rw [← eH] at hat hsz
  refine lv_iconst (v := (0 : Int32)) hx hb dJ0_fill_0 (by decide) ?_
  refine lv_istore_n (lv' := [(2, .int (0 : Int32)), (0, .ref a), (1, .int x)]) hx hb dJ0_fill_1 rfl hl (by decide) rfl (fun ls hl => ?_)
  refine lv_aload_n hx hb dJ0_fill_2 rfl (lv_at hl 1 rfl) ?_
  refine va_alen (v := (4 : Int32)) hx hb hE.1.1 (va_P1 hat) 0 0 rfl rfl rfl dJ0_fill_3 ?_
  refine lv_istore_n (lv' := [(3, .int (4 : Int32)), (2, .int (0 : Int32)), (0, .ref a), (1, .int x)]) hx hb dJ0_fill_4 rfl hl (by decide) rfl (fun ls hl => ?_)
  refine lv_iload_n hx hb dJ0_fill_5 rfl (lv_at hl 1 rfl) ?_
  refine lv_iload_n hx hb dJ0_fill_6 rfl (lv_at hl 0 rfl) ?_
  refine lv_icmp_ge (tgt := 20) hx hb dJ0_fill_7 (by decide) (fun hc => absurd hc (by decide)) (fun hc => ?_)
  refine lv_aload_n hx hb dJ0_fill_10 rfl (lv_at hl 2 rfl) ?_
  refine lv_iload_n hx hb dJ0_fill_11 rfl (lv_at hl 1 rfl) ?_
  refine lv_iload_n hx hb dJ0_fill_12 rfl (lv_at hl 3 rfl) ?_
  refine gast (g := (upd f 0 x)) hx hb hE.1.1 0 hat rfl rfl dJ0_fill_13 (fun H1 locs1 h1 h2 h3 h4 => ?_)
  replace hS := va_S.one (A := fun q => q = a) hS rfl h2 h3 h4
  replace hat := h1
  replace hsz := h2.trans hsz
  clear h1 h2 h3 h4
  revert hS hat hsz
  generalize H1 = H
  generalize locs1 = locs
  intro hS hat hsz
  refine lv_iinc (v := (1 : Int32)) (lv' := [(2, .int (1 : Int32)), (3, .int (4 : Int32)), (0, .ref a), (1, .int x)]) hx hb dJ0_fill_14 hl (k := 1) rfl (by decide) (by decide) rfl (fun ls hl => ?_)
  refine lv_goto (tgt := 5) hx hb dJ0_fill_17 (by decide) ?_
  refine lv_iload_n hx hb dJ0_fill_5 rfl (lv_at hl 0 rfl) ?_
  refine lv_iload_n hx hb dJ0_fill_6 rfl (lv_at hl 1 rfl) ?_
  refine lv_icmp_ge (tgt := 20) hx hb dJ0_fill_7 (by decide) (fun hc => absurd hc (by decide)) (fun hc => ?_)
  refine lv_aload_n hx hb dJ0_fill_10 rfl (lv_at hl 2 rfl) ?_
  refine lv_iload_n hx hb dJ0_fill_11 rfl (lv_at hl 0 rfl) ?_
  refine lv_iload_n hx hb dJ0_fill_12 rfl (lv_at hl 3 rfl) ?_
  refine gast (g := (upd (upd f 0 x) 1 x)) hx hb hE.1.1 0 hat rfl rfl dJ0_fill_13 (fun H1 locs1 h1 h2 h3 h4 => ?_)
  replace hS := va_S.one (A := fun q => q = a) hS rfl h2 h3 h4
  replace hat := h1
  replace hsz := h2.trans hsz
  clear h1 h2 h3 h4
  revert hS hat hsz
  generalize H1 = H
  generalize locs1 = locs
  intro hS hat hsz
  refine lv_iinc (v := (2 : Int32)) (lv' := [(2, .int (2 : Int32)), (3, .int (4 : Int32)), (0, .ref a), (1, .int x)]) hx hb dJ0_fill_14 hl (k := 0) rfl (by decide) (by decide) rfl (fun ls hl => ?_)
  refine lv_goto (tgt := 5) hx hb dJ0_fill_17 (by decide) ?_
  refine lv_iload_n hx hb dJ0_fill_5 rfl (lv_at hl 0 rfl) ?_
  refine lv_iload_n hx hb dJ0_fill_6 rfl (lv_at hl 1 rfl) ?_
  refine lv_icmp_ge (tgt := 20) hx hb dJ0_fill_7 (by decide) (fun hc => absurd hc (by decide)) (fun hc => ?_)
  refine lv_aload_n hx hb dJ0_fill_10 rfl (lv_at hl 2 rfl) ?_
  refine lv_iload_n hx hb dJ0_fill_11 rfl (lv_at hl 0 rfl) ?_
  refine lv_iload_n hx hb dJ0_fill_12 rfl (lv_at hl 3 rfl) ?_
  refine gast (g := (upd (upd (upd f 0 x) 1 x) 2 x)) hx hb hE.1.1 0 hat rfl rfl dJ0_fill_13 (fun H1 locs1 h1 h2 h3 h4 => ?_)
  replace hS := va_S.one (A := fun q => q = a) hS rfl h2 h3 h4
  replace hat := h1
  replace hsz := h2.trans hsz
  clear h1 h2 h3 h4
  revert hS hat hsz
  generalize H1 = H
  generalize locs1 = locs
  intro hS hat hsz
  refine lv_iinc (v := (3 : Int32)) (lv' := [(2, .int (3 : Int32)), (3, .int (4 : Int32)), (0, .ref a), (1, .int x)]) hx hb dJ0_fill_14 hl (k := 0) rfl (by decide) (by decide) rfl (fun ls hl => ?_)
  refine lv_goto (tgt := 5) hx hb dJ0_fill_17 (by decide) ?_
  refine lv_iload_n hx hb dJ0_fill_5 rfl (lv_at hl 0 rfl) ?_
  refine lv_iload_n hx hb dJ0_fill_6 rfl (lv_at hl 1 rfl) ?_
  refine lv_icmp_ge (tgt := 20) hx hb dJ0_fill_7 (by decide) (fun hc => absurd hc (by decide)) (fun hc => ?_)
  refine lv_aload_n hx hb dJ0_fill_10 rfl (lv_at hl 2 rfl) ?_
  refine lv_iload_n hx hb dJ0_fill_11 rfl (lv_at hl 0 rfl) ?_
  refine lv_iload_n hx hb dJ0_fill_12 rfl (lv_at hl 3 rfl) ?_
  refine gast (g := (upd (upd (upd (upd f 0 x) 1 x) 2 x) 3 x)) hx hb hE.1.1 0 hat rfl rfl dJ0_fill_13 (fun H1 locs1 h1 h2 h3 h4 => ?_)
  replace hS := va_S.one (A := fun q => q = a) hS rfl h2 h3 h4
  replace hat := h1
  replace hsz := h2.trans hsz
  clear h1 h2 h3 h4
  revert hS hat hsz
  generalize H1 = H
  generalize locs1 = locs
  intro hS hat hsz
  refine lv_iinc (v := (4 : Int32)) (lv' := [(2, .int (4 : Int32)), (3, .int (4 : Int32)), (0, .ref a), (1, .int x)]) hx hb dJ0_fill_14 hl (k := 0) rfl (by decide) (by decide) rfl (fun ls hl => ?_)
  refine lv_goto (tgt := 5) hx hb dJ0_fill_17 (by decide) ?_
  refine lv_iload_n hx hb dJ0_fill_5 rfl (lv_at hl 0 rfl) ?_
  refine lv_iload_n hx hb dJ0_fill_6 rfl (lv_at hl 1 rfl) ?_
  refine lv_icmp_ge (tgt := 20) hx hb dJ0_fill_7 (by decide) (fun hc => ?_) (fun hc => absurd (by decide) hc)
  have h5 : va_at D vwC (a, .inl (J 0, 4, .inl (fun _ => x))) H := by
    show H[a]? = _
    rw [show H[a]? = _ from hat]
    refine congrArg some (cell_ext (fun j hj => ?_))
    match j, hj with
    | 0, _ => rfl
    | 1, _ => rfl
    | 2, _ => rfl
    | 3, _ => rfl
  exact W.vret hx hb B.returns (fun t ht hW => ⟨⟨(), rfl, trivial, by show t.heap.size = sz ∧ va_at D vwC _ t.heap; rw [ht]; exact ⟨hsz, h5⟩⟩, hS.F ht⟩) hS.2.2 dJ0_fill_20 B.notSynchronized

set_option maxHeartbeats 4000000 in
set_option maxRecDepth 20000 in
theorem mJ1_init (aK aV : Nat → Nat) (e0 : Nat) : MKc yJ1_init cJ1_init 1 1 40 0 0 (EM aK aV e0) vwC (fun a => []) (.inr (6, [.int 0, .null, .int 0])) (fun J a => [(a, .inr (6, [.int 0, .null, .int 0]))]) := by
  intro l D J z a hz
  refine Met.ofW (cc := cJ1_init) (maxL := 1) (ret := none) (by decide) rfl ?_
  intro p e s m args below meth c s₁ B hml hv
  obtain ⟨rfl, hsz, hat, hE⟩ := hv
  have hts := atoms_spec (ws := ws_ yJ1_init cJ1_init 1 none) B.pre
  have hts : ∀ w ∈ lw_all, w.before _ s = true := fun w h => hts w (List.mem_cons_of_mem _ h)
  have hown : s.vm.findClass RJ1 = some m.cls := findClass_of_methodNamed B.named
  have hin : meth.name = "<init>" := (name_of_methodNamed B.named B.method).1
  have hl := lv_entry [.ref a] (n := 1) (Nat.le_of_ble_eq_true rfl)
  rw [lg_entry_eq]
  generalize (lg_sl [.ref a] ++ List.replicate (1 - (lg_sl [.ref a]).length) Slot.unset).toArray = ls at hl ⊢
  have hl : lv_has ls 1 [(0, .ref a)] := hl
  have hx := B.exec
  have hb := B.bytes
  have hI : IN D vwC a [(a, .inr (6, [.int 0, .null, .int 0]))] s s.heap [] := ⟨va_P1 hat, CW.one, hsz, va_S.rf⟩
  obtain ⟨H, eH⟩ : ∃ H, H = s.heap := ⟨_, rfl⟩
  obtain ⟨locs, eL⟩ : ∃ L : List Loc, L = [] := ⟨_, rfl⟩
  rw [← eH, ← eL] at hI ⊢
  refine lv_aload_n hx hb dJ1_init_0 rfl (lv_at hl 0 rfl) ?_
  refine W.objInit hx hb hown (hts _ q432) (hts _ q183) (hts _ q184) rfl (by rw [hml]; exact hl.1) rfl dJ1_init_1 (Nat.le_of_ble_eq_true rfl) (Nat.le_of_ble_eq_true rfl) ?_
  refine W.eq (g2 := F0 m 4 ls []) rfl ?_
  exact W.vret hx hb B.returns (fun t ht hW => ⟨⟨(), rfl, trivial, by rw [ht]; exact hI.1, by rw [ht]; exact hI.2.2.1⟩, hI.2.2.2.F ht⟩) hI.2.2.2.2.2 dJ1_init_4 B.notSynchronized

set_option maxHeartbeats 4000000 in
set_option maxRecDepth 20000 in
theorem mJ2_init (aK aV : Nat → Nat) (e0 : Nat) : MKc yJ2_init cJ2_init 1 2 60 0 0 (EM aK aV e0) vwC (fun a => []) (.inr (6, [.int 0, .null, .int 0])) (fun J a => [(a, .inr (6, [.int (0 : Int32), .null, .int 0]))]) := by
  intro l D J z a hz
  refine Met.ofW (cc := cJ2_init) (maxL := 1) (ret := none) (by decide) rfl ?_
  intro p e s m args below meth c s₁ B hml hv
  obtain ⟨rfl, hsz, hat, hE⟩ := hv
  have hts := atoms_spec (ws := ws_ yJ2_init cJ2_init 1 none) B.pre
  have hts : ∀ w ∈ lw_all, w.before _ s = true := fun w h => hts w (List.mem_cons_of_mem _ h)
  have hown : s.vm.findClass RJ2 = some m.cls := findClass_of_methodNamed B.named
  have hin : meth.name = "<init>" := (name_of_methodNamed B.named B.method).1
  have hl := lv_entry [.ref a] (n := 1) (Nat.le_of_ble_eq_true rfl)
  rw [lg_entry_eq]
  generalize (lg_sl [.ref a] ++ List.replicate (1 - (lg_sl [.ref a]).length) Slot.unset).toArray = ls at hl ⊢
  have hl : lv_has ls 1 [(0, .ref a)] := hl
  have hx := B.exec
  have hb := B.bytes
  have hI : IN D vwC a [(a, .inr (6, [.int 0, .null, .int 0]))] s s.heap [] := ⟨va_P1 hat, CW.one, hsz, va_S.rf⟩
  obtain ⟨H, eH⟩ : ∃ H, H = s.heap := ⟨_, rfl⟩
  obtain ⟨locs, eL⟩ : ∃ L : List Loc, L = [] := ⟨_, rfl⟩
  rw [← eH, ← eL] at hI ⊢
  refine lv_aload_n hx hb dJ2_init_0 rfl (lv_at hl 0 rfl) ?_
  refine va_callv (va_runI (As := []) (rest := []) ⟨hx, hb, hml, hown, hts⟩ (mJ1_init aK aV e0 l D J z (a) (hz)) (cwI 0 hts (lw_meth q431) rfl rfl rfl (hts _ q139) (hts _ q429) (hts _ q430) rfl (by decide +kernel) ⟨Nat.le_of_ble_eq_true rfl, Nat.le_of_ble_eq_true rfl⟩) ⟨fun _ U g mk q => ⟨q.1, q.2.1, q.2.2.1, q.2.2.2.go (State.WarmedH.refl U) (fun _ _ _ => rfl)⟩, fun U hU hW => ⟨rfl, by rw [hU]; exact hI.2.2.1, by rw [hU]; exact hI.1 0 _ rfl, hE.go hW (fun q h1 h2 => by rw [hU]; exact hI.2.2.2.2.1 q h1 (fun h3 => h2 (Nat.le_trans hz h3)))⟩⟩ rfl rfl hl.1 rfl (lv_room (Nat.le_of_ble_eq_true rfl)) dJ2_init_1 ⟨Nat.le_of_ble_eq_true rfl, Nat.le_of_ble_eq_true rfl⟩) hI.2.2.2 (fun q _ h => Nat.le_trans (Nat.le_refl _) h) (fun q h => Nat.le_trans (Nat.le_refl _) h) (fun u t H1 locs1 ht hvm hp hB hz1 hk1 hS => ?_)
  replace hI := hI.call (wr := []) (w1 := [(a, .inr (6, [.int 0, .null, .int 0]))]) (ws' := [(a, .inr (6, [.int 0, .null, .int 0]))]) (b := a) rfl rfl (by rw [← ht]; exact hB.1) CW.one (by rw [← ht]; exact hB.2) hk1 hS
  clear hk1 hS hB hz1 ht hp hvm
  clear t
  revert hI
  generalize H1 = H
  generalize locs1 = locs
  intro hI
  refine lv_aload_n hx hb dJ2_init_4 rfl (lv_at hl 0 rfl) ?_
  refine lv_iconst (v := (0 : Int32)) hx hb dJ2_init_5 (by decide) ?_
  refine gput hx hb hts in_J3 tyJ3 tyJ3_ok nmJ3 hown hE.1.1 (hI.1 0 _ rfl) rfl 0 (by decide) q437 rfl rfl rfl (Nat.le_of_ble_eq_true rfl) dJ2_init_6 (fun H locs h1 h2 h3 h4 => ?_)
  replace hI := hI.put (P := 0) (ws' := [(a, .inr (6, [.int (0 : Int32), .null, .int 0]))]) rfl rfl h1 h2 h3 h4
  clear h1 h2 h3 h4
  exact W.vret hx hb B.returns (fun t ht hW => ⟨⟨(), rfl, trivial, by rw [ht]; exact hI.1, by rw [ht]; exact hI.2.2.1⟩, hI.2.2.2.F ht⟩) hI.2.2.2.2.2 dJ2_init_9 B.notSynchronized

set_option maxHeartbeats 4000000 in
set_option maxRecDepth 20000 in
theorem mJ3_init (aK aV : Nat → Nat) (e0 : Nat) : MKc yJ3_init cJ3_init 1 3 80 0 0 (EM aK aV e0) vwC (fun a => []) (.inr (6, [.int 0, .null, .int 0])) (fun J a => [(a, .inr (6, [.int (0 : Int32), .ref e0, .int 0]))]) := by
  intro l D J z a hz
  refine Met.ofW (cc := cJ3_init) (maxL := 1) (ret := none) (by decide) rfl ?_
  intro p e s m args below meth c s₁ B hml hv
  obtain ⟨rfl, hsz, hat, hE⟩ := hv
  have hts := atoms_spec (ws := ws_ yJ3_init cJ3_init 1 none) B.pre
  have hts : ∀ w ∈ lw_all, w.before _ s = true := fun w h => hts w (List.mem_cons_of_mem _ h)
  have hown : s.vm.findClass RJ3 = some m.cls := findClass_of_methodNamed B.named
  have hin : meth.name = "<init>" := (name_of_methodNamed B.named B.method).1
  have hl := lv_entry [.ref a] (n := 1) (Nat.le_of_ble_eq_true rfl)
  rw [lg_entry_eq]
  generalize (lg_sl [.ref a] ++ List.replicate (1 - (lg_sl [.ref a]).length) Slot.unset).toArray = ls at hl ⊢
  have hl : lv_has ls 1 [(0, .ref a)] := hl
  have hx := B.exec
  have hb := B.bytes
  have hI : IN D vwC a [(a, .inr (6, [.int 0, .null, .int 0]))] s s.heap [] := ⟨va_P1 hat, CW.one, hsz, va_S.rf⟩
  obtain ⟨H, eH⟩ : ∃ H, H = s.heap := ⟨_, rfl⟩
  obtain ⟨locs, eL⟩ : ∃ L : List Loc, L = [] := ⟨_, rfl⟩
  rw [← eH, ← eL] at hI ⊢
  refine lv_aload_n hx hb dJ3_init_0 rfl (lv_at hl 0 rfl) ?_
  refine va_callv (va_runI (As := []) (rest := []) ⟨hx, hb, hml, hown, hts⟩ (mJ2_init aK aV e0 l D J z (a) (hz)) (cwI 0 hts (lw_meth q428) rfl rfl rfl (hts _ q140) (hts _ q426) (hts _ q427) rfl (by decide +kernel) ⟨Nat.le_of_ble_eq_true rfl, Nat.le_of_ble_eq_true rfl⟩) ⟨fun _ U g mk q => ⟨q.1, q.2.1, q.2.2.1, q.2.2.2.go (State.WarmedH.refl U) (fun _ _ _ => rfl)⟩, fun U hU hW => ⟨rfl, by rw [hU]; exact hI.2.2.1, by rw [hU]; exact hI.1 0 _ rfl, hE.go hW (fun q h1 h2 => by rw [hU]; exact hI.2.2.2.2.1 q h1 (fun h3 => h2 (Nat.le_trans hz h3)))⟩⟩ rfl rfl hl.1 rfl (lv_room (Nat.le_of_ble_eq_true rfl)) dJ3_init_1 ⟨Nat.le_of_ble_eq_true rfl, Nat.le_of_ble_eq_true rfl⟩) hI.2.2.2 (fun q _ h => Nat.le_trans (Nat.le_refl _) h) (fun q h => Nat.le_trans (Nat.le_refl _) h) (fun u t H1 locs1 ht hvm hp hB hz1 hk1 hS => ?_)
  replace hI := hI.call (wr := []) (w1 := [(a, .inr (6, [.int (0 : Int32), .null, .int 0]))]) (ws' := [(a, .inr (6, [.int (0 : Int32), .null, .int 0]))]) (b := a) rfl rfl (by rw [← ht]; exact hB.1) CW.one (by rw [← ht]; exact hB.2) hk1 hS
  clear hk1 hS hB hz1 ht hp hvm
  clear t
  revert hI
  generalize H1 = H
  generalize locs1 = locs
  intro hI
  refine lv_aload_n hx hb dJ3_init_4 rfl (lv_at hl 0 rfl) ?_
  refine va_gets (A := zZ z) hx hb hE.2.1 (hI.zS hz) hown (hts _ q433) (fun _ h => h) dJ3_init_5 ?_
  refine gput hx hb hts in_J3 tyJ3 tyJ3_ok nmJ3 hown hE.1.1 (hI.1 0 _ rfl) rfl 1 (by decide) q435 rfl rfl rfl (Nat.le_of_ble_eq_true rfl) dJ3_init_8 (fun H locs h1 h2 h3 h4 => ?_)
  replace hI := hI.put (P := 0) (ws' := [(a, .inr (6, [.int (0 : Int32), .ref e0, .int 0]))]) rfl rfl h1 h2 h3 h4
  clear h1 h2 h3 h4
  exact W.vret hx hb B.returns (fun t ht hW => ⟨⟨(), rfl, trivial, by rw [ht]; exact hI.1, by rw [ht]; exact hI.2.2.1⟩, hI.2.2.2.F ht⟩) hI.2.2.2.2.2 dJ3_init_11 B.notSynchronized

set_option maxHeartbeats 4000000 in
set_option maxRecDepth 20000 in
theorem mX2_init (aK aV : Nat → Nat) (e0 : Nat) : MKc yX2_init cX2_init 1 2 63 19 370 (EM aK aV e0) vwC (fun a => []) (.inr (1, [.int 0, .int 0, .int 0, .int 0, .int 0, .int 0, .int 0, .int 0, .int 0, .null, .null, .null, .null, .null, .null, .null, .null, .null, .null, .null, .null, .null, .null, .null, .null, .null, .null, .null, .null])) (fun J a => ctW J a none w0) := by
  intro l D J z a hz
  refine Met.ofW (cc := cX2_init) (maxL := 1) (ret := none) (by decide) rfl ?_
  intro p e s m args below meth c s₁ B hml hv
  obtain ⟨rfl, hsz, hat, hE⟩ := hv
  have hts := atoms_spec (ws := ws_ yX2_init cX2_init 1 none) B.pre
  have hts : ∀ w ∈ lw_all, w.before _ s = true := fun w h => hts w (List.mem_cons_of_mem _ h)
  have hown : s.vm.findClass RX2 = some m.cls := findClass_of_methodNamed B.named
  have hin : meth.name = "<init>" := (name_of_methodNamed B.named B.method).1
  have hl := lv_entry [.ref a] (n := 1) (Nat.le_of_ble_eq_true rfl)
  rw [lg_entry_eq]
  generalize (lg_sl [.ref a] ++ List.replicate (1 - (lg_sl [.ref a]).length) Slot.unset).toArray = ls at hl ⊢
  have hl : lv_has ls 1 [(0, .ref a)] := hl
  have hx := B.exec
  have hb := B.bytes
  have hI : IN D vwC a [(a, .inr (1, [.int 0, .int 0, .int 0, .int 0, .int 0, .int 0, .int 0, .int 0, .int 0, .null, .null, .null, .null, .null, .null, .null, .null, .null, .null, .null, .null, .null, .null, .null, .null, .null, .null, .null, .null]))] s s.heap [] := ⟨va_P1 hat, CW.one, hsz, va_S.rf⟩
  obtain ⟨H, eH⟩ : ∃ H, H = s.heap := ⟨_, rfl⟩
  obtain ⟨locs, eL⟩ : ∃ L : List Loc, L = [] := ⟨_, rfl⟩
  rw [← eH, ← eL] at hI ⊢
  refine lv_aload_n hx hb dX2_init_0 rfl (lv_at hl 0 rfl) ?_
  refine W.objInit hx hb hown (hts _ q190) (hts _ q183) (hts _ q184) rfl (by rw [hml]; exact hl.1) rfl dX2_init_1 (Nat.le_of_ble_eq_true rfl) (Nat.le_of_ble_eq_true rfl) ?_
  refine W.eq (g2 := F0 m 4 ls []) rfl ?_
  refine lv_aload_n hx hb dX2_init_4 rfl (lv_at hl 0 rfl) ?_
  refine lv_iconst (v := (1 : Int32)) hx hb dX2_init_5 (by decide) ?_
  refine gput hx hb hts in_X2 tyX2 tyX2_ok nmX2 hown hE.1.1 (hI.1 0 _ rfl) rfl 5 (by decide) q206 rfl rfl rfl (Nat.le_of_ble_eq_true rfl) dX2_init_6 (fun H locs h1 h2 h3 h4 => ?_)
  replace hI := hI.put (P := 0) (ws' := [(a, .inr (1, [.int 0, .int 0, .int 0, .int 0, .int 0, .int (1 : Int32), .int 0, .int 0, .int 0, .null, .null, .null, .null, .null, .null, .null, .null, .null, .null, .null, .null, .null, .null, .null, .null, .null, .null, .null, .null]))]) rfl rfl h1 h2 h3 h4
  clear h1 h2 h3 h4
  refine lv_aload_n hx hb dX2_init_9 rfl (lv_at hl 0 rfl) ?_
  refine lv_iconst (v := (1 : Int32)) hx hb dX2_init_10 (by decide) ?_
  refine gput hx hb hts in_X2 tyX2 tyX2_ok nmX2 hown hE.1.1 (hI.1 0 _ rfl) rfl 8 (by decide) q212 rfl rfl rfl (Nat.le_of_ble_eq_true rfl) dX2_init_11 (fun H locs h1 h2 h3 h4 => ?_)
  replace hI := hI.put (P := 0) (ws' := [(a, .inr (1, [.int 0, .int 0, .int 0, .int 0, .int 0, .int (1 : Int32), .int 0, .int 0, .int (1 : Int32), .null, .null, .null, .null, .null, .null, .null, .null, .null, .null, .null, .null, .null, .null, .null, .null, .null, .null, .null, .null]))]) rfl rfl h1 h2 h3 h4
  clear h1 h2 h3 h4
  refine lv_aload_n hx hb dX2_init_14 rfl (lv_at hl 0 rfl) ?_
  refine lv_iconst (v := (4 : Int32)) hx hb dX2_init_15 (by decide) ?_
  refine gnewa (D := D) (cl := vwC) (atype := .int) (ty := .int) (cA := J 0) (a0 := (4, .inl (fun _ => 0))) (h := a + 1) hx hb hts q318 rfl (hE.1.1.2 0 _ rfl).2 (fun _ => rfl) (by decide) rfl (by decide) (hI.2.2.1) (Nat.le_of_ble_eq_true rfl) (Nat.le_of_ble_eq_true rfl) dX2_init_16 (fun H h1 h2 h3 => ?_)
  replace hI := hI.new (ws' := [(a, .inr (1, [.int 0, .int 0, .int 0, .int 0, .int 0, .int (1 : Int32), .int 0, .int 0, .int (1 : Int32), .null, .null, .null, .null, .null, .null, .null, .null, .null, .null, .null, .null, .null, .null, .null, .null, .null, .null, .null, .null])), (a + 1, .inl (J 0, 4, .inl (fun _ => 0)))]) rfl rfl h1 h2 h3
  clear h1 h2 h3
  refine gputF hx hb hts in_X2 tyX2 tyX2_ok nmX2 hown hE.1.1 (hI.1 0 _ rfl) rfl 9 (by decide) q214 rfl hin rfl rfl rfl (Nat.le_of_ble_eq_true rfl) dX2_init_18 (fun H locs h1 h2 h3 h4 => ?_)
  replace hI := hI.put (P := 0) (ws' := [(a, .inr (1, [.int 0, .int 0, .int 0, .int 0, .int 0, .int (1 : Int32), .int 0, .int 0, .int (1 : Int32), .ref (a + 1), .null, .null, .null, .null, .null, .null, .null, .null, .null, .null, .null, .null, .null, .null, .null, .null, .null, .null, .null])), (a + 1, .inl (J 0, 4, .inl (fun _ => 0)))]) rfl rfl h1 h2 h3 h4
  clear h1 h2 h3 h4
  refine lv_aload_n hx hb dX2_init_21 rfl (lv_at hl 0 rfl) ?_
  refine lv_bipush (v := (6 : Int32)) hx hb dX2_init_22 (by decide) ?_
  refine gnewa (D := D) (cl := vwC) (atype := .int) (ty := .int) (cA := J 0) (a0 := (6, .inl (fun _ => 0))) (h := a + 2) hx hb hts q318 rfl (hE.1.1.2 0 _ rfl).2 (fun _ => rfl) (by decide) rfl (by decide) (hI.2.2.1) (Nat.le_of_ble_eq_true rfl) (Nat.le_of_ble_eq_true rfl) dX2_init_24 (fun H h1 h2 h3 => ?_)
  replace hI := hI.new (ws' := [(a, .inr (1, [.int 0, .int 0, .int 0, .int 0, .int 0, .int (1 : Int32), .int 0, .int 0, .int (1 : Int32), .ref (a + 1), .null, .null, .null, .null, .null, .null, .null, .null, .null, .null, .null, .null, .null, .null, .null, .null, .null, .null, .null])), (a + 1, .inl (J 0, 4, .inl (fun _ => 0))), (a + 2, .inl (J 0, 6, .inl (fun _ => 0)))]) rfl rfl h1 h2 h3
  clear h1 h2 h3
  refine gputF hx hb hts in_X2 tyX2 tyX2_ok nmX2 hown hE.1.1 (hI.1 0 _ rfl) rfl 10 (by decide) q216 rfl hin rfl rfl rfl (Nat.le_of_ble_eq_true rfl) dX2_init_26 (fun H locs h1 h2 h3 h4 => ?_)
  replace hI := hI.put (P := 0) (ws' := [(a, .inr (1, [.int 0, .int 0, .int 0, .int 0, .int 0, .int (1 : Int32), .int 0, .int 0, .int (1 : Int32), .ref (a + 1), .ref (a + 2), .null, .null, .null, .null, .null, .null, .null, .null, .null, .null, .null, .null, .null, .null, .null, .null, .null, .null])), (a + 1, .inl (J 0, 4, .inl (fun _ => 0))), (a + 2, .inl (J 0, 6, .inl (fun _ => 0)))]) rfl rfl h1 h2 h3 h4
  clear h1 h2 h3 h4
  refine lv_aload_n hx hb dX2_init_29 rfl (lv_at hl 0 rfl) ?_
  refine lv_bipush (v := (6 : Int32)) hx hb dX2_init_30 (by decide) ?_
  refine gnewa (D := D) (cl := vwC) (atype := .int) (ty := .int) (cA := J 0) (a0 := (6, .inl (fun _ => 0))) (h := a + 3) hx hb hts q318 rfl (hE.1.1.2 0 _ rfl).2 (fun _ => rfl) (by decide) rfl (by decide) (hI.2.2.1) (Nat.le_of_ble_eq_true rfl) (Nat.le_of_ble_eq_true rfl) dX2_init_32 (fun H h1 h2 h3 => ?_)
  replace hI := hI.new (ws' := [(a, .inr (1, [.int 0, .int 0, .int 0, .int 0, .int 0, .int (1 : Int32), .int 0, .int 0, .int (1 : Int32), .ref (a + 1), .ref (a + 2), .null, .null, .null, .null, .null, .null, .null, .null, .null, .null, .null, .null, .null, .null, .null, .null, .null, .null])), (a + 1, .inl (J 0, 4, .inl (fun _ => 0))), (a + 2, .inl (J 0, 6, .inl (fun _ => 0))), (a + 3, .inl (J 0, 6, .inl (fun _ => 0)))]) rfl rfl h1 h2 h3
  clear h1 h2 h3
  refine gputF hx hb hts in_X2 tyX2 tyX2_ok nmX2 hown hE.1.1 (hI.1 0 _ rfl) rfl 11 (by decide) q218 rfl hin rfl rfl rfl (Nat.le_of_ble_eq_true rfl) dX2_init_34 (fun H locs h1 h2 h3 h4 => ?_)
  replace hI := hI.put (P := 0) (ws' := [(a, .inr (1, [.int 0, .int 0, .int 0, .int 0, .int 0, .int (1 : Int32), .int 0, .int 0, .int (1 : Int32), .ref (a + 1), .ref (a + 2), .ref (a + 3), .null, .null, .null, .null, .null, .null, .null, .null, .null, .null, .null, .null, .null, .null, .null, .null, .null])), (a + 1, .inl (J 0, 4, .inl (fun _ => 0))), (a + 2, .inl (J 0, 6, .inl (fun _ => 0))), (a + 3, .inl (J 0, 6, .inl (fun _ => 0)))]) rfl rfl h1 h2 h3 h4
  clear h1 h2 h3 h4
  refine lv_aload_n hx hb dX2_init_37 rfl (lv_at hl 0 rfl) ?_
  refine lv_bipush (v := (6 : Int32)) hx hb dX2_init_38 (by decide) ?_
  refine gnewa (D := D) (cl := vwC) (atype := .int) (ty := .int) (cA := J 0) (a0 := (6, .inl (fun _ => 0))) (h := a + 4) hx hb hts q318 rfl (hE.1.1.2 0 _ rfl).2 (fun _ => rfl) (by decide) rfl (by decide) (hI.2.2.1) (Nat.le_of_ble_eq_true rfl) (Nat.le_of_ble_eq_true rfl) dX2_init_40 (fun H h1 h2 h3 => ?_)
  replace hI := hI.new (ws' := [(a, .inr (1, [.int 0, .int 0, .int 0, .int 0, .int 0, .int (1 : Int32), .int 0, .int 0, .int (1 : Int32), .ref (a + 1), .ref (a + 2), .ref (a + 3), .null, .null, .null, .null, .null, .null, .null, .null, .null, .null, .null, .null, .null, .null, .null, .null, .null])), (a + 1, .inl (J 0, 4, .inl (fun _ => 0))), (a + 2, .inl (J 0, 6, .inl (fun _ => 0))), (a + 3, .inl (J 0, 6, .inl (fun _ => 0))), (a + 4, .inl (J 0, 6, .inl (fun _ => 0)))]) rfl rfl h1 h2 h3
  clear h1 h2 h3
  refine gputF hx hb hts in_X2 tyX2 tyX2_ok nmX2 hown hE.1.1 (hI.1 0 _ rfl) rfl 12 (by decide) q220 rfl hin rfl rfl rfl (Nat.le_of_ble_eq_true rfl) dX2_init_42 (fun H locs h1 h2 h3 h4 => ?_)
  replace hI := hI.put (P := 0) (ws' := [(a, .inr (1, [.int 0, .int 0, .int 0, .int 0, .int 0, .int (1 : Int32), .int 0, .int 0, .int (1 : Int32), .ref (a + 1), .ref (a + 2), .ref (a + 3), .ref (a + 4), .null, .null, .null, .null, .null, .null, .null, .null, .null, .null, .null, .null, .null, .null, .null, .null])), (a + 1, .inl (J 0, 4, .inl (fun _ => 0))), (a + 2, .inl (J 0, 6, .inl (fun _ => 0))), (a + 3, .inl (J 0, 6, .inl (fun _ => 0))), (a + 4, .inl (J 0, 6, .inl (fun _ => 0)))]) rfl rfl h1 h2 h3 h4
  clear h1 h2 h3 h4
  refine lv_aload_n hx hb dX2_init_45 rfl (lv_at hl 0 rfl) ?_
  refine lv_bipush (v := (6 : Int32)) hx hb dX2_init_46 (by decide) ?_
  refine gnewa (D := D) (cl := vwC) (atype := .int) (ty := .int) (cA := J 0) (a0 := (6, .inl (fun _ => 0))) (h := a + 5) hx hb hts q318 rfl (hE.1.1.2 0 _ rfl).2 (fun _ => rfl) (by decide) rfl (by decide) (hI.2.2.1) (Nat.le_of_ble_eq_true rfl) (Nat.le_of_ble_eq_true rfl) dX2_init_48 (fun H h1 h2 h3 => ?_)
  replace hI := hI.new (ws' := [(a, .inr (1, [.int 0, .int 0, .int 0, .int 0, .int 0, .int (1 : Int32), .int 0, .int 0, .int (1 : Int32), .ref (a + 1), .ref (a + 2), .ref (a + 3), .ref (a + 4), .null, .null, .null, .null, .null, .null, .null, .null, .null, .null, .null, .null, .null, .null, .null, .null])), (a + 1, .inl (J 0, 4, .inl (fun _ => 0))), (a + 2, .inl (J 0, 6, .inl (fun _ => 0))), (a + 3, .inl (J 0, 6, .inl (fun _ => 0))), (a + 4, .inl (J 0, 6, .inl (fun _ => 0))), (a + 5, .inl (J 0, 6, .inl (fun _ => 0)))]) rfl rfl h1 h2 h3
  clear h1 h2 h3
  refine gputF hx hb hts in_X2 tyX2 tyX2_ok nmX2 hown hE.1.1 (hI.1 0 _ rfl) rfl 13 (by decide) q223 rfl hin rfl rfl rfl (Nat.le_of_ble_eq_true rfl) dX2_init_50 (fun H locs h1 h2 h3 h4 => ?_)
  replace hI := hI.put (P := 0) (ws' := [(a, .inr (1, [.int 0, .int 0, .int 0, .int 0, .int 0, .int (1 : Int32), .int 0, .int 0, .int (1 : Int32), .ref (a + 1), .ref (a + 2), .ref (a + 3), .ref (a + 4), .ref (a + 5), .null, .null, .null, .null, .null, .null, .null, .null, .null, .null, .null, .null, .null, .null, .null])), (a + 1, .inl (J 0, 4, .inl (fun _ => 0))), (a + 2, .inl (J 0, 6, .inl (fun _ => 0))), (a + 3, .inl (J 0, 6, .inl (fun _ => 0))), (a + 4, .inl (J 0, 6, .inl (fun _ => 0))), (a + 5, .inl (J 0, 6, .inl (fun _ => 0)))]) rfl rfl h1 h2 h3 h4
  clear h1 h2 h3 h4
  refine lv_aload_n hx hb dX2_init_53 rfl (lv_at hl 0 rfl) ?_
  refine lv_bipush (v := (6 : Int32)) hx hb dX2_init_54 (by decide) ?_
  refine gnewa (D := D) (cl := vwC) (atype := .boolean) (ty := .boolean) (cA := J 1) (a0 := (6, .inl (fun _ => 0))) (h := a + 6) hx hb hts q319 rfl (hE.1.1.2 1 _ rfl).2 (fun _ => rfl) (by decide) rfl (by decide) (hI.2.2.1) (Nat.le_of_ble_eq_true rfl) (Nat.le_of_ble_eq_true rfl) dX2_init_56 (fun H h1 h2 h3 => ?_)
  replace hI := hI.new (ws' := [(a, .inr (1, [.int 0, .int 0, .int 0, .int 0, .int 0, .int (1 : Int32), .int 0, .int 0, .int (1 : Int32), .ref (a + 1), .ref (a + 2), .ref (a + 3), .ref (a + 4), .ref (a + 5), .null, .null, .null, .null, .null, .null, .null, .null, .null, .null, .null, .null, .null, .null, .null])), (a + 1, .inl (J 0, 4, .inl (fun _ => 0))), (a + 2, .inl (J 0, 6, .inl (fun _ => 0))), (a + 3, .inl (J 0, 6, .inl (fun _ => 0))), (a + 4, .inl (J 0, 6, .inl (fun _ => 0))), (a + 5, .inl (J 0, 6, .inl (fun _ => 0))), (a + 6, .inl (J 1, 6, .inl (fun _ => 0)))]) rfl rfl h1 h2 h3
  clear h1 h2 h3
  refine gputF hx hb hts in_X2 tyX2 tyX2_ok nmX2 hown hE.1.1 (hI.1 0 _ rfl) rfl 14 (by decide) q225 rfl hin rfl rfl rfl (Nat.le_of_ble_eq_true rfl) dX2_init_58 (fun H locs h1 h2 h3 h4 => ?_)
  replace hI := hI.put (P := 0) (ws' := [(a, .inr (1, [.int 0, .int 0, .int 0, .int 0, .int 0, .int (1 : Int32), .int 0, .int 0, .int (1 : Int32), .ref (a + 1), .ref (a + 2), .ref (a + 3), .ref (a + 4), .ref (a + 5), .ref (a + 6), .null, .null, .null, .null, .null, .null, .null, .null, .null, .null, .null, .null, .null, .null])), (a + 1, .inl (J 0, 4, .inl (fun _ => 0))), (a + 2, .inl (J 0, 6, .inl (fun _ => 0))), (a + 3, .inl (J 0, 6, .inl (fun _ => 0))), (a + 4, .inl (J 0, 6, .inl (fun _ => 0))), (a + 5, .inl (J 0, 6, .inl (fun _ => 0))), (a + 6, .inl (J 1, 6, .inl (fun _ => 0)))]) rfl rfl h1 h2 h3 h4
  clear h1 h2 h3 h4
  refine lv_aload_n hx hb dX2_init_61 rfl (lv_at hl 0 rfl) ?_
  refine lv_bipush (v := (8 : Int32)) hx hb dX2_init_62 (by decide) ?_
  refine gnewa (D := D) (cl := vwC) (atype := .boolean) (ty := .boolean) (cA := J 1) (a0 := (8, .inl (fun _ => 0))) (h := a + 7) hx hb hts q319 rfl (hE.1.1.2 1 _ rfl).2 (fun _ => rfl) (by decide) rfl (by decide) (hI.2.2.1) (Nat.le_of_ble_eq_true rfl) (Nat.le_of_ble_eq_true rfl) dX2_init_64 (fun H h1 h2 h3 => ?_)
  replace hI := hI.new (ws' := [(a, .inr (1, [.int 0, .int 0, .int 0, .int 0, .int 0, .int (1 : Int32), .int 0, .int 0, .int (1 : Int32), .ref (a + 1), .ref (a + 2), .ref (a + 3), .ref (a + 4), .ref (a + 5), .ref (a + 6), .null, .null, .null, .null, .null, .null, .null, .null, .null, .null, .null, .null, .null, .null])), (a + 1, .inl (J 0, 4, .inl (fun _ => 0))), (a + 2, .inl (J 0, 6, .inl (fun _ => 0))), (a + 3, .inl (J 0, 6, .inl (fun _ => 0))), (a + 4, .inl (J 0, 6, .inl (fun _ => 0))), (a + 5, .inl (J 0, 6, .inl (fun _ => 0))), (a + 6, .inl (J 1, 6, .inl (fun _ => 0))), (a + 7, .inl (J 1, 8, .inl (fun _ => 0)))]) rfl rfl h1 h2 h3
  clear h1 h2 h3
  refine gputF hx hb hts in_X2 tyX2 tyX2_ok nmX2 hown hE.1.1 (hI.1 0 _ rfl) rfl 15 (by decide) q227 rfl hin rfl rfl rfl (Nat.le_of_ble_eq_true rfl) dX2_init_66 (fun H locs h1 h2 h3 h4 => ?_)
  replace hI := hI.put (P := 0) (ws' := [(a, .inr (1, [.int 0, .int 0, .int 0, .int 0, .int 0, .int (1 : Int32), .int 0, .int 0, .int (1 : Int32), .ref (a + 1), .ref (a + 2), .ref (a + 3), .ref (a + 4), .ref (a + 5), .ref (a + 6), .ref (a + 7), .null, .null, .null, .null, .null, .null, .null, .null, .null, .null, .null, .null, .null])), (a + 1, .inl (J 0, 4, .inl (fun _ => 0))), (a + 2, .inl (J 0, 6, .inl (fun _ => 0))), (a + 3, .inl (J 0, 6, .inl (fun _ => 0))), (a + 4, .inl (J 0, 6, .inl (fun _ => 0))), (a + 5, .inl (J 0, 6, .inl (fun _ => 0))), (a + 6, .inl (J 1, 6, .inl (fun _ => 0))), (a + 7, .inl (J 1, 8, .inl (fun _ => 0)))]) rfl rfl h1 h2 h3 h4
  clear h1 h2 h3 h4
  refine lv_aload_n hx hb dX2_init_69 rfl (lv_at hl 0 rfl) ?_
  refine lv_bipush (v := (8 : Int32)) hx hb dX2_init_70 (by decide) ?_
  refine gnewa (D := D) (cl := vwC) (atype := .int) (ty := .int) (cA := J 0) (a0 := (8, .inl (fun _ => 0))) (h := a + 8) hx hb hts q318 rfl (hE.1.1.2 0 _ rfl).2 (fun _ => rfl) (by decide) rfl (by decide) (hI.2.2.1) (Nat.le_of_ble_eq_true rfl) (Nat.le_of_ble_eq_true rfl) dX2_init_72 (fun H h1 h2 h3 => ?_)
  replace hI := hI.new (ws' := [(a, .inr (1, [.int 0, .int 0, .int 0, .int 0, .int 0, .int (1 : Int32), .int 0, .int 0, .int (1 : Int32), .ref (a + 1), .ref (a + 2), .ref (a + 3), .ref (a + 4), .ref (a + 5), .ref (a + 6), .ref (a + 7), .null, .null, .null, .null, .null, .null, .null, .null, .null, .null, .null, .null, .null])), (a + 1, .inl (J 0, 4, .inl (fun _ => 0))), (a + 2, .inl (J 0, 6, .inl (fun _ => 0))), (a + 3, .inl (J 0, 6, .inl (fun _ => 0))), (a + 4, .inl (J 0, 6, .inl (fun _ => 0))), (a + 5, .inl (J 0, 6, .inl (fun _ => 0))), (a + 6, .inl (J 1, 6, .inl (fun _ => 0))), (a + 7, .inl (J 1, 8, .inl (fun _ => 0))), (a + 8, .inl (J 0, 8, .inl (fun _ => 0)))]) rfl rfl h1 h2 h3
  clear h1 h2 h3
  refine gputF hx hb hts in_X2 tyX2 tyX2_ok nmX2 hown hE.1.1 (hI.1 0 _ rfl) rfl 16 (by decide) q230 rfl hin rfl rfl rfl (Nat.le_of_ble_eq_true rfl) dX2_init_74 (fun H locs h1 h2 h3 h4 => ?_)
  replace hI := hI.put (P := 0) (ws' := [(a, .inr (1, [.int 0, .int 0, .int 0, .int 0, .int 0, .int (1 : Int32), .int 0, .int 0, .int (1 : Int32), .ref (a + 1), .ref (a + 2), .ref (a + 3), .ref (a + 4), .ref (a + 5), .ref (a + 6), .ref (a + 7), .ref (a + 8), .null, .null, .null, .null, .null, .null, .null, .null, .null, .null, .null, .null])), (a + 1, .inl (J 0, 4, .inl (fun _ => 0))), (a + 2, .inl (J 0, 6, .inl (fun _ => 0))), (a + 3, .inl (J 0, 6, .inl (fun _ => 0))), (a + 4, .inl (J 0, 6, .inl (fun _ => 0))), (a + 5, .inl (J 0, 6, .inl (fun _ => 0))), (a + 6, .inl (J 1, 6, .inl (fun _ => 0))), (a + 7, .inl (J 1, 8, .inl (fun _ => 0))), (a + 8, .inl (J 0, 8, .inl (fun _ => 0)))]) rfl rfl h1 h2 h3 h4
  clear h1 h2 h3 h4
  refine lv_aload_n hx hb dX2_init_77 rfl (lv_at hl 0 rfl) ?_
  refine lv_bipush (v := (8 : Int32)) hx hb dX2_init_78 (by decide) ?_
  refine gnewa (D := D) (cl := vwC) (atype := .int) (ty := .int) (cA := J 0) (a0 := (8, .inl (fun _ => 0))) (h := a + 9) hx hb hts q318 rfl (hE.1.1.2 0 _ rfl).2 (fun _ => rfl) (by decide) rfl (by decide) (hI.2.2.1) (Nat.le_of_ble_eq_true rfl) (Nat.le_of_ble_eq_true rfl) dX2_init_80 (fun H h1 h2 h3 => ?_)
  replace hI := hI.new (ws' := [(a, .inr (1, [.int 0, .int 0, .int 0, .int 0, .int 0, .int (1 : Int32), .int 0, .int 0, .int (1 : Int32), .ref (a + 1), .ref (a + 2), .ref (a + 3), .ref (a + 4), .ref (a + 5), .ref (a + 6), .ref (a + 7), .ref (a + 8), .null, .null, .null, .null, .null, .null, .null, .null, .null, .null, .null, .null])), (a + 1, .inl (J 0, 4, .inl (fun _ => 0))), (a + 2, .inl (J 0, 6, .inl (fun _ => 0))), (a + 3, .inl (J 0, 6, .inl (fun _ => 0))), (a + 4, .inl (J 0, 6, .inl (fun _ => 0))), (a + 5, .inl (J 0, 6, .inl (fun _ => 0))), (a + 6, .inl (J 1, 6, .inl (fun _ => 0))), (a + 7, .inl (J 1, 8, .inl (fun _ => 0))), (a + 8, .inl (J 0, 8, .inl (fun _ => 0))), (a + 9, .inl (J 0, 8, .inl (fun _ => 0)))]) rfl rfl h1 h2 h3
  clear h1 h2 h3
  refine gputF hx hb hts in_X2 tyX2 tyX2_ok nmX2 hown hE.1.1 (hI.1 0 _ rfl) rfl 17 (by decide) q232 rfl hin rfl rfl rfl (Nat.le_of_ble_eq_true rfl) dX2_init_82 (fun H locs h1 h2 h3 h4 => ?_)
  replace hI := hI.put (P := 0) (ws' := [(a, .inr (1, [.int 0, .int 0, .int 0, .int 0, .int 0, .int (1 : Int32), .int 0, .int 0, .int (1 : Int32), .ref (a + 1), .ref (a + 2), .ref (a + 3), .ref (a + 4), .ref (a + 5), .ref (a + 6), .ref (a + 7), .ref (a + 8), .ref (a + 9), .null, .null, .null, .null, .null, .null, .null, .null, .null, .null, .null])), (a + 1, .inl (J 0, 4, .inl (fun _ => 0))), (a + 2, .inl (J 0, 6, .inl (fun _ => 0))), (a + 3, .inl (J 0, 6, .inl (fun _ => 0))), (a + 4, .inl (J 0, 6, .inl (fun _ => 0))), (a + 5, .inl (J 0, 6, .inl (fun _ => 0))), (a + 6, .inl (J 1, 6, .inl (fun _ => 0))), (a + 7, .inl (J 1, 8, .inl (fun _ => 0))), (a + 8, .inl (J 0, 8, .inl (fun _ => 0))), (a + 9, .inl (J 0, 8, .inl (fun _ => 0)))]) rfl rfl h1 h2 h3 h4
  clear h1 h2 h3 h4
  refine lv_aload_n hx hb dX2_init_85 rfl (lv_at hl 0 rfl) ?_
  refine lv_bipush (v := (8 : Int32)) hx hb dX2_init_86 (by decide) ?_
  refine gnewa (D := D) (cl := vwC) (atype := .int) (ty := .int) (cA := J 0) (a0 := (8, .inl (fun _ => 0))) (h := a + 10) hx hb hts q318 rfl (hE.1.1.2 0 _ rfl).2 (fun _ => rfl) (by decide) rfl (by decide) (hI.2.2.1) (Nat.le_of_ble_eq_true rfl) (Nat.le_of_ble_eq_true rfl) dX2_init_88 (fun H h1 h2 h3 => ?_)
  replace hI := hI.new (ws' := [(a, .inr (1, [.int 0, .int 0, .int 0, .int 0, .int 0, .int (1 : Int32), .int 0, .int 0, .int (1 : Int32), .ref (a + 1), .ref (a + 2), .ref (a + 3), .ref (a + 4), .ref (a + 5), .ref (a + 6), .ref (a + 7), .ref (a + 8), .ref (a + 9), .null, .null, .null, .null, .null, .null, .null, .null, .null, .null, .null])), (a + 1, .inl (J 0, 4, .inl (fun _ => 0))), (a + 2, .inl (J 0, 6, .inl (fun _ => 0))), (a + 3, .inl (J 0, 6, .inl (fun _ => 0))), (a + 4, .inl (J 0, 6, .inl (fun _ => 0))), (a + 5, .inl (J 0, 6, .inl (fun _ => 0))), (a + 6, .inl (J 1, 6, .inl (fun _ => 0))), (a + 7, .inl (J 1, 8, .inl (fun _ => 0))), (a + 8, .inl (J 0, 8, .inl (fun _ => 0))), (a + 9, .inl (J 0, 8, .inl (fun _ => 0))), (a + 10, .inl (J 0, 8, .inl (fun _ => 0)))]) rfl rfl h1 h2 h3
  clear h1 h2 h3
  refine gputF hx hb hts in_X2 tyX2 tyX2_ok nmX2 hown hE.1.1 (hI.1 0 _ rfl) rfl 18 (by decide) q235 rfl hin rfl rfl rfl (Nat.le_of_ble_eq_true rfl) dX2_init_90 (fun H locs h1 h2 h3 h4 => ?_)
  replace hI := hI.put (P := 0) (ws' := [(a, .inr (1, [.int 0, .int 0, .int 0, .int 0, .int 0, .int (1 : Int32), .int 0, .int 0, .int (1 : Int32), .ref (a + 1), .ref (a + 2), .ref (a + 3), .ref (a + 4), .ref (a + 5), .ref (a + 6), .ref (a + 7), .ref (a + 8), .ref (a + 9), .ref (a + 10), .null, .null, .null, .null, .null, .null, .null, .null, .null, .null])), (a + 1, .inl (J 0, 4, .inl (fun _ => 0))), (a + 2, .inl (J 0, 6, .inl (fun _ => 0))), (a + 3, .inl (J 0, 6, .inl (fun _ => 0))), (a + 4, .inl (J 0, 6, .inl (fun _ => 0))), (a + 5, .inl (J 0, 6, .inl (fun _ => 0))), (a + 6, .inl (J 1, 6, .inl (fun _ => 0))), (a + 7, .inl (J 1, 8, .inl (fun _ => 0))), (a + 8, .inl (J 0, 8, .inl (fun _ => 0))), (a + 9, .inl (J 0, 8, .inl (fun _ => 0))), (a + 10, .inl (J 0, 8, .inl (fun _ => 0)))]) rfl rfl h1 h2 h3 h4
  clear h1 h2 h3 h4
  refine lv_aload_n hx hb dX2_init_93 rfl (lv_at hl 0 rfl) ?_
  refine lv_bipush (v := (8 : Int32)) hx hb dX2_init_94 (by decide) ?_
  refine gnewa (D := D) (cl := vwC) (atype := .int) (ty := .int) (cA := J 0) (a0 := (8, .inl (fun _ => 0))) (h := a + 11) hx hb hts q318 rfl (hE.1.1.2 0 _ rfl).2 (fun _ => rfl) (by decide) rfl (by decide) (hI.2.2.1) (Nat.le_of_ble_eq_true rfl) (Nat.le_of_ble_eq_true rfl) dX2_init_96 (fun H h1 h2 h3 => ?_)
  replace hI := hI.new (ws' := [(a, .inr (1, [.int 0, .int 0, .int 0, .int 0, .int 0, .int (1 : Int32), .int 0, .int 0, .int (1 : Int32), .ref (a + 1), .ref (a + 2), .ref (a + 3), .ref (a + 4), .ref (a + 5), .ref (a + 6), .ref (a + 7), .ref (a + 8), .ref (a + 9), .ref (a + 10), .null, .null, .null, .null, .null, .null, .null, .null, .null, .null])), (a + 1, .inl (J 0, 4, .inl (fun _ => 0))), (a + 2, .inl (J 0, 6, .inl (fun _ => 0))), (a + 3, .inl (J 0, 6, .inl (fun _ => 0))), (a + 4, .inl (J 0, 6, .inl (fun _ => 0))), (a + 5, .inl (J 0, 6, .inl (fun _ => 0))), (a + 6, .inl (J 1, 6, .inl (fun _ => 0))), (a + 7, .inl (J 1, 8, .inl (fun _ => 0))), (a + 8, .inl (J 0, 8, .inl (fun _ => 0))), (a + 9, .inl (J 0, 8, .inl (fun _ => 0))), (a + 10, .inl (J 0, 8, .inl (fun _ => 0))), (a + 11, .inl (J 0, 8, .inl (fun _ => 0)))]) rfl rfl h1 h2 h3
  clear h1 h2 h3
  refine gputF hx hb hts in_X2 tyX2 tyX2_ok nmX2 hown hE.1.1 (hI.1 0 _ rfl) rfl 19 (by decide) q238 rfl hin rfl rfl rfl (Nat.le_of_ble_eq_true rfl) dX2_init_98 (fun H locs h1 h2 h3 h4 => ?_)
  replace hI := hI.put (P := 0) (ws' := [(a, .inr (1, [.int 0, .int 0, .int 0, .int 0, .int 0, .int (1 : Int32), .int 0, .int 0, .int (1 : Int32), .ref (a + 1), .ref (a + 2), .ref (a + 3), .ref (a + 4), .ref (a + 5), .ref (a + 6), .ref (a + 7), .ref (a + 8), .ref (a + 9), .ref (a + 10), .ref (a + 11), .null, .null, .null, .null, .null, .null, .null, .null, .null])), (a + 1, .inl (J 0, 4, .inl (fun _ => 0))), (a + 2, .inl (J 0, 6, .inl (fun _ => 0))), (a + 3, .inl (J 0, 6, .inl (fun _ => 0))), (a + 4, .inl (J 0, 6, .inl (fun _ => 0))), (a + 5, .inl (J 0, 6, .inl (fun _ => 0))), (a + 6, .inl (J 1, 6, .inl (fun _ => 0))), (a + 7, .inl (J 1, 8, .inl (fun _ => 0))), (a + 8, .inl (J 0, 8, .inl (fun _ => 0))), (a + 9, .inl (J 0, 8, .inl (fun _ => 0))), (a + 10, .inl (J 0, 8, .inl (fun _ => 0))), (a + 11, .inl (J 0, 8, .inl (fun _ => 0)))]) rfl rfl h1 h2 h3 h4
  clear h1 h2 h3 h4
  refine lv_aload_n hx hb dX2_init_101 rfl (lv_at hl 0 rfl) ?_
  refine lv_bipush (v := (8 : Int32)) hx hb dX2_init_102 (by decide) ?_
  refine gnewa (D := D) (cl := vwC) (atype := .int) (ty := .int) (cA := J 0) (a0 := (8, .inl (fun _ => 0))) (h := a + 12) hx hb hts q318 rfl (hE.1.1.2 0 _ rfl).2 (fun _ => rfl) (by decide) rfl (by decide) (hI.2.2.1) (Nat.le_of_ble_eq_true rfl) (Nat.le_of_ble_eq_true rfl) dX2_init_104 (fun H h1 h2 h3 => ?_)
  replace hI := hI.new (ws' := [(a, .inr (1, [.int 0, .int 0, .int 0, .int 0, .int 0, .int (1 : Int32), .int 0, .int 0, .int (1 : Int32), .ref (a + 1), .ref (a + 2), .ref (a + 3), .ref (a + 4), .ref (a + 5), .ref (a + 6), .ref (a + 7), .ref (a + 8), .ref (a + 9), .ref (a + 10), .ref (a + 11), .null, .null, .null, .null, .null, .null, .null, .null, .null])), (a + 1, .inl (J 0, 4, .inl (fun _ => 0))), (a + 2, .inl (J 0, 6, .inl (fun _ => 0))), (a + 3, .inl (J 0, 6, .inl (fun _ => 0))), (a + 4, .inl (J 0, 6, .inl (fun _ => 0))), (a + 5, .inl (J 0, 6, .inl (fun _ => 0))), (a + 6, .inl (J 1, 6, .inl (fun _ => 0))), (a + 7, .inl (J 1, 8, .inl (fun _ => 0))), (a + 8, .inl (J 0, 8, .inl (fun _ => 0))), (a + 9, .inl (J 0, 8, .inl (fun _ => 0))), (a + 10, .inl (J 0, 8, .inl (fun _ => 0))), (a + 11, .inl (J 0, 8, .inl (fun _ => 0))), (a + 12, .inl (J 0, 8, .inl (fun _ => 0)))]) rfl rfl h1 h2 h3
  clear h1 h2 h3
  refine gputF hx hb hts in_X2 tyX2 tyX2_ok nmX2 hown hE.1.1 (hI.1 0 _ rfl) rfl 20 (by decide) q241 rfl hin rfl rfl rfl (Nat.le_of_ble_eq_true rfl) dX2_init_106 (fun H locs h1 h2 h3 h4 => ?_)
  replace hI := hI.put (P := 0) (ws' := [(a, .inr (1, [.int 0, .int 0, .int 0, .int 0, .int 0, .int (1 : Int32), .int 0, .int 0, .int (1 : Int32), .ref (a + 1), .ref (a + 2), .ref (a + 3), .ref (a + 4), .ref (a + 5), .ref (a + 6), .ref (a + 7), .ref (a + 8), .ref (a + 9), .ref (a + 10), .ref (a + 11), .ref (a + 12), .null, .null, .null, .null, .null, .null, .null, .null])), (a + 1, .inl (J 0, 4, .inl (fun _ => 0))), (a + 2, .inl (J 0, 6, .inl (fun _ => 0))), (a + 3, .inl (J 0, 6, .inl (fun _ => 0))), (a + 4, .inl (J 0, 6, .inl (fun _ => 0))), (a + 5, .inl (J 0, 6, .inl (fun _ => 0))), (a + 6, .inl (J 1, 6, .inl (fun _ => 0))), (a + 7, .inl (J 1, 8, .inl (fun _ => 0))), (a + 8, .inl (J 0, 8, .inl (fun _ => 0))), (a + 9, .inl (J 0, 8, .inl (fun _ => 0))), (a + 10, .inl (J 0, 8, .inl (fun _ => 0))), (a + 11, .inl (J 0, 8, .inl (fun _ => 0))), (a + 12, .inl (J 0, 8, .inl (fun _ => 0)))]) rfl rfl h1 h2 h3 h4
  clear h1 h2 h3 h4
  refine lv_aload_n hx hb dX2_init_109 rfl (lv_at hl 0 rfl) ?_
  refine lv_bipush (v := (8 : Int32)) hx hb dX2_init_110 (by decide) ?_
  refine gnewa (D := D) (cl := vwC) (atype := .int) (ty := .int) (cA := J 0) (a0 := (8, .inl (fun _ => 0))) (h := a + 13) hx hb hts q318 rfl (hE.1.1.2 0 _ rfl).2 (fun _ => rfl) (by decide) rfl (by decide) (hI.2.2.1) (Nat.le_of_ble_eq_true rfl) (Nat.le_of_ble_eq_true rfl) dX2_init_112 (fun H h1 h2 h3 => ?_)
  replace hI := hI.new (ws' := [(a, .inr (1, [.int 0, .int 0, .int 0, .int 0, .int 0, .int (1 : Int32), .int 0, .int 0, .int (1 : Int32), .ref (a + 1), .ref (a + 2), .ref (a + 3), .ref (a + 4), .ref (a + 5), .ref (a + 6), .ref (a + 7), .ref (a + 8), .ref (a + 9), .ref (a + 10), .ref (a + 11), .ref (a + 12), .null, .null, .null, .null, .null, .null, .null, .null])), (a + 1, .inl (J 0, 4, .inl (fun _ => 0))), (a + 2, .inl (J 0, 6, .inl (fun _ => 0))), (a + 3, .inl (J 0, 6, .inl (fun _ => 0))), (a + 4, .inl (J 0, 6, .inl (fun _ => 0))), (a + 5, .inl (J 0, 6, .inl (fun _ => 0))), (a + 6, .inl (J 1, 6, .inl (fun _ => 0))), (a + 7, .inl (J 1, 8, .inl (fun _ => 0))), (a + 8, .inl (J 0, 8, .inl (fun _ => 0))), (a + 9, .inl (J 0, 8, .inl (fun _ => 0))), (a + 10, .inl (J 0, 8, .inl (fun _ => 0))), (a + 11, .inl (J 0, 8, .inl (fun _ => 0))), (a + 12, .inl (J 0, 8, .inl (fun _ => 0))), (a + 13, .inl (J 0, 8, .inl (fun _ => 0)))]) rfl rfl h1 h2 h3
  clear h1 h2 h3
  refine gputF hx hb hts in_X2 tyX2 tyX2_ok nmX2 hown hE.1.1 (hI.1 0 _ rfl) rfl 21 (by decide) q243 rfl hin rfl rfl rfl (Nat.le_of_ble_eq_true rfl) dX2_init_114 (fun H locs h1 h2 h3 h4 => ?_)
  replace hI := hI.put (P := 0) (ws' := [(a, .inr (1, [.int 0, .int 0, .int 0, .int 0, .int 0, .int (1 : Int32), .int 0, .int 0, .int (1 : Int32), .ref (a + 1), .ref (a + 2), .ref (a + 3), .ref (a + 4), .ref (a + 5), .ref (a + 6), .ref (a + 7), .ref (a + 8), .ref (a + 9), .ref (a + 10), .ref (a + 11), .ref (a + 12), .ref (a + 13), .null, .null, .null, .null, .null, .null, .null])), (a + 1, .inl (J 0, 4, .inl (fun _ => 0))), (a + 2, .inl (J 0, 6, .inl (fun _ => 0))), (a + 3, .inl (J 0, 6, .inl (fun _ => 0))), (a + 4, .inl (J 0, 6, .inl (fun _ => 0))), (a + 5, .inl (J 0, 6, .inl (fun _ => 0))), (a + 6, .inl (J 1, 6, .inl (fun _ => 0))), (a + 7, .inl (J 1, 8, .inl (fun _ => 0))), (a + 8, .inl (J 0, 8, .inl (fun _ => 0))), (a + 9, .inl (J 0, 8, .inl (fun _ => 0))), (a + 10, .inl (J 0, 8, .inl (fun _ => 0))), (a + 11, .inl (J 0, 8, .inl (fun _ => 0))), (a + 12, .inl (J 0, 8, .inl (fun _ => 0))), (a + 13, .inl (J 0, 8, .inl (fun _ => 0)))]) rfl rfl h1 h2 h3 h4
  clear h1 h2 h3 h4
  refine lv_aload_n hx hb dX2_init_117 rfl (lv_at hl 0 rfl) ?_
  refine lv_bipush (v := (8 : Int32)) hx hb dX2_init_118 (by decide) ?_
  refine gnewa (D := D) (cl := vwC) (atype := .int) (ty := .int) (cA := J 0) (a0 := (8, .inl (fun _ => 0))) (h := a + 14) hx hb hts q318 rfl (hE.1.1.2 0 _ rfl).2 (fun _ => rfl) (by decide) rfl (by decide) (hI.2.2.1) (Nat.le_of_ble_eq_true rfl) (Nat.le_of_ble_eq_true rfl) dX2_init_120 (fun H h1 h2 h3 => ?_)
  replace hI := hI.new (ws' := [(a, .inr (1, [.int 0, .int 0, .int 0, .int 0, .int 0, .int (1 : Int32), .int 0, .int 0, .int (1 : Int32), .ref (a + 1), .ref (a + 2), .ref (a + 3), .ref (a + 4), .ref (a + 5), .ref (a + 6), .ref (a + 7), .ref (a + 8), .ref (a + 9), .ref (a + 10), .ref (a + 11), .ref (a + 12), .ref (a + 13), .null, .null, .null, .null, .null, .null, .null])), (a + 1, .inl (J 0, 4, .inl (fun _ => 0))), (a + 2, .inl (J 0, 6, .inl (fun _ => 0))), (a + 3, .inl (J 0, 6, .inl (fun _ => 0))), (a + 4, .inl (J 0, 6, .inl (fun _ => 0))), (a + 5, .inl (J 0, 6, .inl (fun _ => 0))), (a + 6, .inl (J 1, 6, .inl (fun _ => 0))), (a + 7, .inl (J 1, 8, .inl (fun _ => 0))), (a + 8, .inl (J 0, 8, .inl (fun _ => 0))), (a + 9, .inl (J 0, 8, .inl (fun _ => 0))), (a + 10, .inl (J 0, 8, .inl (fun _ => 0))), (a + 11, .inl (J 0, 8, .inl (fun _ => 0))), (a + 12, .inl (J 0, 8, .inl (fun _ => 0))), (a + 13, .inl (J 0, 8, .inl (fun _ => 0))), (a + 14, .inl (J 0, 8, .inl (fun _ => 0)))]) rfl rfl h1 h2 h3
  clear h1 h2 h3
  refine gputF hx hb hts in_X2 tyX2 tyX2_ok nmX2 hown hE.1.1 (hI.1 0 _ rfl) rfl 22 (by decide) q245 rfl hin rfl rfl rfl (Nat.le_of_ble_eq_true rfl) dX2_init_122 (fun H locs h1 h2 h3 h4 => ?_)
  replace hI := hI.put (P := 0) (ws' := [(a, .inr (1, [.int 0, .int 0, .int 0, .int 0, .int 0, .int (1 : Int32), .int 0, .int 0, .int (1 : Int32), .ref (a + 1), .ref (a + 2), .ref (a + 3), .ref (a + 4), .ref (a + 5), .ref (a + 6), .ref (a + 7), .ref (a + 8), .ref (a + 9), .ref (a + 10), .ref (a + 11), .ref (a + 12), .ref (a + 13), .ref (a + 14), .null, .null, .null, .null, .null, .null])), (a + 1, .inl (J 0, 4, .inl (fun _ => 0))), (a + 2, .inl (J 0, 6, .inl (fun _ => 0))), (a + 3, .inl (J 0, 6, .inl (fun _ => 0))), (a + 4, .inl (J 0, 6, .inl (fun _ => 0))), (a + 5, .inl (J 0, 6, .inl (fun _ => 0))), (a + 6, .inl (J 1, 6, .inl (fun _ => 0))), (a + 7, .inl (J 1, 8, .inl (fun _ => 0))), (a + 8, .inl (J 0, 8, .inl (fun _ => 0))), (a + 9, .inl (J 0, 8, .inl (fun _ => 0))), (a + 10, .inl (J 0, 8, .inl (fun _ => 0))), (a + 11, .inl (J 0, 8, .inl (fun _ => 0))), (a + 12, .inl (J 0, 8, .inl (fun _ => 0))), (a + 13, .inl (J 0, 8, .inl (fun _ => 0))), (a + 14, .inl (J 0, 8, .inl (fun _ => 0)))]) rfl rfl h1 h2 h3 h4
  clear h1 h2 h3 h4
  refine lv_aload_n hx hb dX2_init_125 rfl (lv_at hl 0 rfl) ?_
  refine lv_bipush (v := (8 : Int32)) hx hb dX2_init_126 (by decide) ?_
  refine gnewa (D := D) (cl := vwC) (atype := .int) (ty := .int) (cA := J 0) (a0 := (8, .inl (fun _ => 0))) (h := a + 15) hx hb hts q318 rfl (hE.1.1.2 0 _ rfl).2 (fun _ => rfl) (by decide) rfl (by decide) (hI.2.2.1) (Nat.le_of_ble_eq_true rfl) (Nat.le_of_ble_eq_true rfl) dX2_init_128 (fun H h1 h2 h3 => ?_)
  replace hI := hI.new (ws' := [(a, .inr (1, [.int 0, .int 0, .int 0, .int 0, .int 0, .int (1 : Int32), .int 0, .int 0, .int (1 : Int32), .ref (a + 1), .ref (a + 2), .ref (a + 3), .ref (a + 4), .ref (a + 5), .ref (a + 6), .ref (a + 7), .ref (a + 8), .ref (a + 9), .ref (a + 10), .ref (a + 11), .ref (a + 12), .ref (a + 13), .ref (a + 14), .null, .null, .null, .null, .null, .null])), (a + 1, .inl (J 0, 4, .inl (fun _ => 0))), (a + 2, .inl (J 0, 6, .inl (fun _ => 0))), (a + 3, .inl (J 0, 6, .inl (fun _ => 0))), (a + 4, .inl (J 0, 6, .inl (fun _ => 0))), (a + 5, .inl (J 0, 6, .inl (fun _ => 0))), (a + 6, .inl (J 1, 6, .inl (fun _ => 0))), (a + 7, .inl (J 1, 8, .inl (fun _ => 0))), (a + 8, .inl (J 0, 8, .inl (fun _ => 0))), (a + 9, .inl (J 0, 8, .inl (fun _ => 0))), (a + 10, .inl (J 0, 8, .inl (fun _ => 0))), (a + 11, .inl (J 0, 8, .inl (fun _ => 0))), (a + 12, .inl (J 0, 8, .inl (fun _ => 0))), (a + 13, .inl (J 0, 8, .inl (fun _ => 0))), (a + 14, .inl (J 0, 8, .inl (fun _ => 0))), (a + 15, .inl (J 0, 8, .inl (fun _ => 0)))]) rfl rfl h1 h2 h3
  clear h1 h2 h3
  refine gputF hx hb hts in_X2 tyX2 tyX2_ok nmX2 hown hE.1.1 (hI.1 0 _ rfl) rfl 23 (by decide) q247 rfl hin rfl rfl rfl (Nat.le_of_ble_eq_true rfl) dX2_init_130 (fun H locs h1 h2 h3 h4 => ?_)
  replace hI := hI.put (P := 0) (ws' := [(a, .inr (1, [.int 0, .int 0, .int 0, .int 0, .int 0, .int (1 : Int32), .int 0, .int 0, .int (1 : Int32), .ref (a + 1), .ref (a + 2), .ref (a + 3), .ref (a + 4), .ref (a + 5), .ref (a + 6), .ref (a + 7), .ref (a + 8), .ref (a + 9), .ref (a + 10), .ref (a + 11), .ref (a + 12), .ref (a + 13), .ref (a + 14), .ref (a + 15), .null, .null, .null, .null, .null])), (a + 1, .inl (J 0, 4, .inl (fun _ => 0))), (a + 2, .inl (J 0, 6, .inl (fun _ => 0))), (a + 3, .inl (J 0, 6, .inl (fun _ => 0))), (a + 4, .inl (J 0, 6, .inl (fun _ => 0))), (a + 5, .inl (J 0, 6, .inl (fun _ => 0))), (a + 6, .inl (J 1, 6, .inl (fun _ => 0))), (a + 7, .inl (J 1, 8, .inl (fun _ => 0))), (a + 8, .inl (J 0, 8, .inl (fun _ => 0))), (a + 9, .inl (J 0, 8, .inl (fun _ => 0))), (a + 10, .inl (J 0, 8, .inl (fun _ => 0))), (a + 11, .inl (J 0, 8, .inl (fun _ => 0))), (a + 12, .inl (J 0, 8, .inl (fun _ => 0))), (a + 13, .inl (J 0, 8, .inl (fun _ => 0))), (a + 14, .inl (J 0, 8, .inl (fun _ => 0))), (a + 15, .inl (J 0, 8, .inl (fun _ => 0)))]) rfl rfl h1 h2 h3 h4
  clear h1 h2 h3 h4
  refine lv_aload_n hx hb dX2_init_133 rfl (lv_at hl 0 rfl) ?_
  refine lv_bipush (v := (8 : Int32)) hx hb dX2_init_134 (by decide) ?_
  refine gnewa (D := D) (cl := vwC) (atype := .int) (ty := .int) (cA := J 0) (a0 := (8, .inl (fun _ => 0))) (h := a + 16) hx hb hts q318 rfl (hE.1.1.2 0 _ rfl).2 (fun _ => rfl) (by decide) rfl (by decide) (hI.2.2.1) (Nat.le_of_ble_eq_true rfl) (Nat.le_of_ble_eq_true rfl) dX2_init_136 (fun H h1 h2 h3 => ?_)
  replace hI := hI.new (ws' := [(a, .inr (1, [.int 0, .int 0, .int 0, .int 0, .int 0, .int (1 : Int32), .int 0, .int 0, .int (1 : Int32), .ref (a + 1), .ref (a + 2), .ref (a + 3), .ref (a + 4), .ref (a + 5), .ref (a + 6), .ref (a + 7), .ref (a + 8), .ref (a + 9), .ref (a + 10), .ref (a + 11), .ref (a + 12), .ref (a + 13), .ref (a + 14), .ref (a + 15), .null, .null, .null, .null, .null])), (a + 1, .inl (J 0, 4, .inl (fun _ => 0))), (a + 2, .inl (J 0, 6, .inl (fun _ => 0))), (a + 3, .inl (J 0, 6, .inl (fun _ => 0))), (a + 4, .inl (J 0, 6, .inl (fun _ => 0))), (a + 5, .inl (J 0, 6, .inl (fun _ => 0))), (a + 6, .inl (J 1, 6, .inl (fun _ => 0))), (a + 7, .inl (J 1, 8, .inl (fun _ => 0))), (a + 8, .inl (J 0, 8, .inl (fun _ => 0))), (a + 9, .inl (J 0, 8, .inl (fun _ => 0))), (a + 10, .inl (J 0, 8, .inl (fun _ => 0))), (a + 11, .inl (J 0, 8, .inl (fun _ => 0))), (a + 12, .inl (J 0, 8, .inl (fun _ => 0))), (a + 13, .inl (J 0, 8, .inl (fun _ => 0))), (a + 14, .inl (J 0, 8, .inl (fun _ => 0))), (a + 15, .inl (J 0, 8, .inl (fun _ => 0))), (a + 16, .inl (J 0, 8, .inl (fun _ => 0)))]) rfl rfl h1 h2 h3
  clear h1 h2 h3
  refine gputF hx hb hts in_X2 tyX2 tyX2_ok nmX2 hown hE.1.1 (hI.1 0 _ rfl) rfl 24 (by decide) q249 rfl hin rfl rfl rfl (Nat.le_of_ble_eq_true rfl) dX2_init_138 (fun H locs h1 h2 h3 h4 => ?_)
  replace hI := hI.put (P := 0) (ws' := [(a, .inr (1, [.int 0, .int 0, .int 0, .int 0, .int 0, .int (1 : Int32), .int 0, .int 0, .int (1 : Int32), .ref (a + 1), .ref (a + 2), .ref (a + 3), .ref (a + 4), .ref (a + 5), .ref (a + 6), .ref (a + 7), .ref (a + 8), .ref (a + 9), .ref (a + 10), .ref (a + 11), .ref (a + 12), .ref (a + 13), .ref (a + 14), .ref (a + 15), .ref (a + 16), .null, .null, .null, .null])), (a + 1, .inl (J 0, 4, .inl (fun _ => 0))), (a + 2, .inl (J 0, 6, .inl (fun _ => 0))), (a + 3, .inl (J 0, 6, .inl (fun _ => 0))), (a + 4, .inl (J 0, 6, .inl (fun _ => 0))), (a + 5, .inl (J 0, 6, .inl (fun _ => 0))), (a + 6, .inl (J 1, 6, .inl (fun _ => 0))), (a + 7, .inl (J 1, 8, .inl (fun _ => 0))), (a + 8, .inl (J 0, 8, .inl (fun _ => 0))), (a + 9, .inl (J 0, 8, .inl (fun _ => 0))), (a + 10, .inl (J 0, 8, .inl (fun _ => 0))), (a + 11, .inl (J 0, 8, .inl (fun _ => 0))), (a + 12, .inl (J 0, 8, .inl (fun _ => 0))), (a + 13, .inl (J 0, 8, .inl (fun _ => 0))), (a + 14, .inl (J 0, 8, .inl (fun _ => 0))), (a + 15, .inl (J 0, 8, .inl (fun _ => 0))), (a + 16, .inl (J 0, 8, .inl (fun _ => 0)))]) rfl rfl h1 h2 h3 h4
  clear h1 h2 h3 h4
  refine lv_aload_n hx hb dX2_init_141 rfl (lv_at hl 0 rfl) ?_
  refine lv_bipush (v := (8 : Int32)) hx hb dX2_init_142 (by decide) ?_
  refine gnewa (D := D) (cl := vwC) (atype := .int) (ty := .int) (cA := J 0) (a0 := (8, .inl (fun _ => 0))) (h := a + 17) hx hb hts q318 rfl (hE.1.1.2 0 _ rfl).2 (fun _ => rfl) (by decide) rfl (by decide) (hI.2.2.1) (Nat.le_of_ble_eq_true rfl) (Nat.le_of_ble_eq_true rfl) dX2_init_144 (fun H h1 h2 h3 => ?_)
  replace hI := hI.new (ws' := [(a, .inr (1, [.int 0, .int 0, .int 0, .int 0, .int 0, .int (1 : Int32), .int 0, .int 0, .int (1 : Int32), .ref (a + 1), .ref (a + 2), .ref (a + 3), .ref (a + 4), .ref (a + 5), .ref (a + 6), .ref (a + 7), .ref (a + 8), .ref (a + 9), .ref (a + 10), .ref (a + 11), .ref (a + 12), .ref (a + 13), .ref (a + 14), .ref (a + 15), .ref (a + 16), .null, .null, .null, .null])), (a + 1, .inl (J 0, 4, .inl (fun _ => 0))), (a + 2, .inl (J 0, 6, .inl (fun _ => 0))), (a + 3, .inl (J 0, 6, .inl (fun _ => 0))), (a + 4, .inl (J 0, 6, .inl (fun _ => 0))), (a + 5, .inl (J 0, 6, .inl (fun _ => 0))), (a + 6, .inl (J 1, 6, .inl (fun _ => 0))), (a + 7, .inl (J 1, 8, .inl (fun _ => 0))), (a + 8, .inl (J 0, 8, .inl (fun _ => 0))), (a + 9, .inl (J 0, 8, .inl (fun _ => 0))), (a + 10, .inl (J 0, 8, .inl (fun _ => 0))), (a + 11, .inl (J 0, 8, .inl (fun _ => 0))), (a + 12, .inl (J 0, 8, .inl (fun _ => 0))), (a + 13, .inl (J 0, 8, .inl (fun _ => 0))), (a + 14, .inl (J 0, 8, .inl (fun _ => 0))), (a + 15, .inl (J 0, 8, .inl (fun _ => 0))), (a + 16, .inl (J 0, 8, .inl (fun _ => 0))), (a + 17, .inl (J 0, 8, .inl (fun _ => 0)))]) rfl rfl h1 h2 h3
  clear h1 h2 h3
  refine gputF hx hb hts in_X2 tyX2 tyX2_ok nmX2 hown hE.1.1 (hI.1 0 _ rfl) rfl 25 (by decide) q251 rfl hin rfl rfl rfl (Nat.le_of_ble_eq_true rfl) dX2_init_146 (fun H locs h1 h2 h3 h4 => ?_)
  replace hI := hI.put (P := 0) (ws' := [(a, .inr (1, [.int 0, .int 0, .int 0, .int 0, .int 0, .int (1 : Int32), .int 0, .int 0, .int (1 : Int32), .ref (a + 1), .ref (a + 2), .ref (a + 3), .ref (a + 4), .ref (a + 5), .ref (a + 6), .ref (a + 7), .ref (a + 8), .ref (a + 9), .ref (a + 10), .ref (a + 11), .ref (a + 12), .ref (a + 13), .ref (a + 14), .ref (a + 15), .ref (a + 16), .ref (a + 17), .null, .null, .null])), (a + 1, .inl (J 0, 4, .inl (fun _ => 0))), (a + 2, .inl (J 0, 6, .inl (fun _ => 0))), (a + 3, .inl (J 0, 6, .inl (fun _ => 0))), (a + 4, .inl (J 0, 6, .inl (fun _ => 0))), (a + 5, .inl (J 0, 6, .inl (fun _ => 0))), (a + 6, .inl (J 1, 6, .inl (fun _ => 0))), (a + 7, .inl (J 1, 8, .inl (fun _ => 0))), (a + 8, .inl (J 0, 8, .inl (fun _ => 0))), (a + 9, .inl (J 0, 8, .inl (fun _ => 0))), (a + 10, .inl (J 0, 8, .inl (fun _ => 0))), (a + 11, .inl (J 0, 8, .inl (fun _ => 0))), (a + 12, .inl (J 0, 8, .inl (fun _ => 0))), (a + 13, .inl (J 0, 8, .inl (fun _ => 0))), (a + 14, .inl (J 0, 8, .inl (fun _ => 0))), (a + 15, .inl (J 0, 8, .inl (fun _ => 0))), (a + 16, .inl (J 0, 8, .inl (fun _ => 0))), (a + 17, .inl (J 0, 8, .inl (fun _ => 0)))]) rfl rfl h1 h2 h3 h4
  clear h1 h2 h3 h4
  refine lv_aload_n hx hb dX2_init_149 rfl (lv_at hl 0 rfl) ?_
  refine lv_bipush (v := (8 : Int32)) hx hb dX2_init_150 (by decide) ?_
  refine gnewa (D := D) (cl := vwC) (atype := .int) (ty := .int) (cA := J 0) (a0 := (8, .inl (fun _ => 0))) (h := a + 18) hx hb hts q318 rfl (hE.1.1.2 0 _ rfl).2 (fun _ => rfl) (by decide) rfl (by decide) (hI.2.2.1) (Nat.le_of_ble_eq_true rfl) (Nat.le_of_ble_eq_true rfl) dX2_init_152 (fun H h1 h2 h3 => ?_)
  replace hI := hI.new (ws' := [(a, .inr (1, [.int 0, .int 0, .int 0, .int 0, .int 0, .int (1 : Int32), .int 0, .int 0, .int (1 : Int32), .ref (a + 1), .ref (a + 2), .ref (a + 3), .ref (a + 4), .ref (a + 5), .ref (a + 6), .ref (a + 7), .ref (a + 8), .ref (a + 9), .ref (a + 10), .ref (a + 11), .ref (a + 12), .ref (a + 13), .ref (a + 14), .ref (a + 15), .ref (a + 16), .ref (a + 17), .null, .null, .null])), (a + 1, .inl (J 0, 4, .inl (fun _ => 0))), (a + 2, .inl (J 0, 6, .inl (fun _ => 0))), (a + 3, .inl (J 0, 6, .inl (fun _ => 0))), (a + 4, .inl (J 0, 6, .inl (fun _ => 0))), (a + 5, .inl (J 0, 6, .inl (fun _ => 0))), (a + 6, .inl (J 1, 6, .inl (fun _ => 0))), (a + 7, .inl (J 1, 8, .inl (fun _ => 0))), (a + 8, .inl (J 0, 8, .inl (fun _ => 0))), (a + 9, .inl (J 0, 8, .inl (fun _ => 0))), (a + 10, .inl (J 0, 8, .inl (fun _ => 0))), (a + 11, .inl (J 0, 8, .inl (fun _ => 0))), (a + 12, .inl (J 0, 8, .inl (fun _ => 0))), (a + 13, .inl (J 0, 8, .inl (fun _ => 0))), (a + 14, .inl (J 0, 8, .inl (fun _ => 0))), (a + 15, .inl (J 0, 8, .inl (fun _ => 0))), (a + 16, .inl (J 0, 8, .inl (fun _ => 0))), (a + 17, .inl (J 0, 8, .inl (fun _ => 0))), (a + 18, .inl (J 0, 8, .inl (fun _ => 0)))]) rfl rfl h1 h2 h3
  clear h1 h2 h3
  refine gputF hx hb hts in_X2 tyX2 tyX2_ok nmX2 hown hE.1.1 (hI.1 0 _ rfl) rfl 26 (by decide) q253 rfl hin rfl rfl rfl (Nat.le_of_ble_eq_true rfl) dX2_init_154 (fun H locs h1 h2 h3 h4 => ?_)
  replace hI := hI.put (P := 0) (ws' := [(a, .inr (1, [.int 0, .int 0, .int 0, .int 0, .int 0, .int (1 : Int32), .int 0, .int 0, .int (1 : Int32), .ref (a + 1), .ref (a + 2), .ref (a + 3), .ref (a + 4), .ref (a + 5), .ref (a + 6), .ref (a + 7), .ref (a + 8), .ref (a + 9), .ref (a + 10), .ref (a + 11), .ref (a + 12), .ref (a + 13), .ref (a + 14), .ref (a + 15), .ref (a + 16), .ref (a + 17), .ref (a + 18), .null, .null])), (a + 1, .inl (J 0, 4, .inl (fun _ => 0))), (a + 2, .inl (J 0, 6, .inl (fun _ => 0))), (a + 3, .inl (J 0, 6, .inl (fun _ => 0))), (a + 4, .inl (J 0, 6, .inl (fun _ => 0))), (a + 5, .inl (J 0, 6, .inl (fun _ => 0))), (a + 6, .inl (J 1, 6, .inl (fun _ => 0))), (a + 7, .inl (J 1, 8, .inl (fun _ => 0))), (a + 8, .inl (J 0, 8, .inl (fun _ => 0))), (a + 9, .inl (J 0, 8, .inl (fun _ => 0))), (a + 10, .inl (J 0, 8, .inl (fun _ => 0))), (a + 11, .inl (J 0, 8, .inl (fun _ => 0))), (a + 12, .inl (J 0, 8, .inl (fun _ => 0))), (a + 13, .inl (J 0, 8, .inl (fun _ => 0))), (a + 14, .inl (J 0, 8, .inl (fun _ => 0))), (a + 15, .inl (J 0, 8, .inl (fun _ => 0))), (a + 16, .inl (J 0, 8, .inl (fun _ => 0))), (a + 17, .inl (J 0, 8, .inl (fun _ => 0))), (a + 18, .inl (J 0, 8, .inl (fun _ => 0)))]) rfl rfl h1 h2 h3 h4
  clear h1 h2 h3 h4
  refine lv_aload_n hx hb dX2_init_157 rfl (lv_at hl 0 rfl) ?_
  refine lv_sipush (v := (240 : Int32)) hx hb dX2_init_158 (by decide) ?_
  refine gnewa (D := D) (cl := vwC) (atype := .int) (ty := .int) (cA := J 0) (a0 := (240, .inl (fun _ => 0))) (h := a + 19) hx hb hts q318 rfl (hE.1.1.2 0 _ rfl).2 (fun _ => rfl) (by decide) rfl (by decide) (hI.2.2.1) (Nat.le_of_ble_eq_true rfl) (Nat.le_of_ble_eq_true rfl) dX2_init_161 (fun H h1 h2 h3 => ?_)
  replace hI := hI.new (ws' := [(a, .inr (1, [.int 0, .int 0, .int 0, .int 0, .int 0, .int (1 : Int32), .int 0, .int 0, .int (1 : Int32), .ref (a + 1), .ref (a + 2), .ref (a + 3), .ref (a + 4), .ref (a + 5), .ref (a + 6), .ref (a + 7), .ref (a + 8), .ref (a + 9), .ref (a + 10), .ref (a + 11), .ref (a + 12), .ref (a + 13), .ref (a + 14), .ref (a + 15), .ref (a + 16), .ref (a + 17), .ref (a + 18), .null, .null])), (a + 1, .inl (J 0, 4, .inl (fun _ => 0))), (a + 2, .inl (J 0, 6, .inl (fun _ => 0))), (a + 3, .inl (J 0, 6, .inl (fun _ => 0))), (a + 4, .inl (J 0, 6, .inl (fun _ => 0))), (a + 5, .inl (J 0, 6, .inl (fun _ => 0))), (a + 6, .inl (J 1, 6, .inl (fun _ => 0))), (a + 7, .inl (J 1, 8, .inl (fun _ => 0))), (a + 8, .inl (J 0, 8, .inl (fun _ => 0))), (a + 9, .inl (J 0, 8, .inl (fun _ => 0))), (a + 10, .inl (J 0, 8, .inl (fun _ => 0))), (a + 11, .inl (J 0, 8, .inl (fun _ => 0))), (a + 12, .inl (J 0, 8, .inl (fun _ => 0))), (a + 13, .inl (J 0, 8, .inl (fun _ => 0))), (a + 14, .inl (J 0, 8, .inl (fun _ => 0))), (a + 15, .inl (J 0, 8, .inl (fun _ => 0))), (a + 16, .inl (J 0, 8, .inl (fun _ => 0))), (a + 17, .inl (J 0, 8, .inl (fun _ => 0))), (a + 18, .inl (J 0, 8, .inl (fun _ => 0))), (a + 19, .inl (J 0, 240, .inl (fun _ => 0)))]) rfl rfl h1 h2 h3
  clear h1 h2 h3
  refine gputF hx hb hts in_X2 tyX2 tyX2_ok nmX2 hown hE.1.1 (hI.1 0 _ rfl) rfl 27 (by decide) q255 rfl hin rfl rfl rfl (Nat.le_of_ble_eq_true rfl) dX2_init_163 (fun H locs h1 h2 h3 h4 => ?_)
  replace hI := hI.put (P := 0) (ws' := [(a, .inr (1, [.int 0, .int 0, .int 0, .int 0, .int 0, .int (1 : Int32), .int 0, .int 0, .int (1 : Int32), .ref (a + 1), .ref (a + 2), .ref (a + 3), .ref (a + 4), .ref (a + 5), .ref (a + 6), .ref (a + 7), .ref (a + 8), .ref (a + 9), .ref (a + 10), .ref (a + 11), .ref (a + 12), .ref (a + 13), .ref (a + 14), .ref (a + 15), .ref (a + 16), .ref (a + 17), .ref (a + 18), .ref (a + 19), .null])), (a + 1, .inl (J 0, 4, .inl (fun _ => 0))), (a + 2, .inl (J 0, 6, .inl (fun _ => 0))), (a + 3, .inl (J 0, 6, .inl (fun _ => 0))), (a + 4, .inl (J 0, 6, .inl (fun _ => 0))), (a + 5, .inl (J 0, 6, .inl (fun _ => 0))), (a + 6, .inl (J 1, 6, .inl (fun _ => 0))), (a + 7, .inl (J 1, 8, .inl (fun _ => 0))), (a + 8, .inl (J 0, 8, .inl (fun _ => 0))), (a + 9, .inl (J 0, 8, .inl (fun _ => 0))), (a + 10, .inl (J 0, 8, .inl (fun _ => 0))), (a + 11, .inl (J 0, 8, .inl (fun _ => 0))), (a + 12, .inl (J 0, 8, .inl (fun _ => 0))), (a + 13, .inl (J 0, 8, .inl (fun _ => 0))), (a + 14, .inl (J 0, 8, .inl (fun _ => 0))), (a + 15, .inl (J 0, 8, .inl (fun _ => 0))), (a + 16, .inl (J 0, 8, .inl (fun _ => 0))), (a + 17, .inl (J 0, 8, .inl (fun _ => 0))), (a + 18, .inl (J 0, 8, .inl (fun _ => 0))), (a + 19, .inl (J 0, 240, .inl (fun _ => 0)))]) rfl rfl h1 h2 h3 h4
  clear h1 h2 h3 h4
  refine lv_aload_n hx hb dX2_init_166 rfl (lv_at hl 0 rfl) ?_
  refine gget hx hb hts in_X2 hown hE.1.1 (hI.1 0 _ rfl) rfl 9 (by decide) q214 rfl dX2_init_167 ?_
  refine lv_iconst (v := (2 : Int32)) hx hb dX2_init_170 (by decide) ?_
  refine va_callv (va_runS (As := [.ref (a + 1), .int (2 : Int32)]) (rest := []) ⟨hx, hb, hml, hown, hts⟩ (mJ0_fill l D J z (a + 1) aK aV e0 _ (fun _ => 0) (2 : Int32) (Nat.le_trans hz (Nat.le_add_right _ _))) (va_cwS 2 hts (lw_S q191 q192 q135 q193) rfl rfl rfl (by decide +kernel) ⟨Nat.le_of_ble_eq_true rfl, Nat.le_of_ble_eq_true rfl⟩) ⟨fun _ U g mk q => ⟨q.1, q.2.1, q.2.2.go (State.WarmedH.refl U) (fun _ _ _ => rfl)⟩, fun U hU hW => ⟨rfl, by rw [hU]; exact ⟨rfl, hI.1 1 _ rfl⟩, hE.go hW (fun q h1 h2 => by rw [hU]; exact hI.2.2.2.2.1 q h1 (fun h3 => h2 (Nat.le_trans hz h3)))⟩⟩ rfl rfl hl.1 rfl (lv_room (Nat.le_of_ble_eq_true rfl)) dX2_init_171 ⟨Nat.le_of_ble_eq_true rfl, Nat.le_of_ble_eq_true rfl⟩) hI.2.2.2 (fun q _ h => by rw [show q = _ from h]; exact Nat.le_add_right _ _) (fun q h => by rw [show q = _ from h]; exact Nat.le_add_right _ _) (fun u t H1 locs1 ht hvm hp hB hz1 hk1 hS => ?_)
  replace hI := hI.row (P := 1) (x := a + 1) (ws' := [(a, .inr (1, [.int 0, .int 0, .int 0, .int 0, .int 0, .int (1 : Int32), .int 0, .int 0, .int (1 : Int32), .ref (a + 1), .ref (a + 2), .ref (a + 3), .ref (a + 4), .ref (a + 5), .ref (a + 6), .ref (a + 7), .ref (a + 8), .ref (a + 9), .ref (a + 10), .ref (a + 11), .ref (a + 12), .ref (a + 13), .ref (a + 14), .ref (a + 15), .ref (a + 16), .ref (a + 17), .ref (a + 18), .ref (a + 19), .null])), (a + 1, .inl (J 0, 4, .inl (fun _ => (2 : Int32)))), (a + 2, .inl (J 0, 6, .inl (fun _ => 0))), (a + 3, .inl (J 0, 6, .inl (fun _ => 0))), (a + 4, .inl (J 0, 6, .inl (fun _ => 0))), (a + 5, .inl (J 0, 6, .inl (fun _ => 0))), (a + 6, .inl (J 1, 6, .inl (fun _ => 0))), (a + 7, .inl (J 1, 8, .inl (fun _ => 0))), (a + 8, .inl (J 0, 8, .inl (fun _ => 0))), (a + 9, .inl (J 0, 8, .inl (fun _ => 0))), (a + 10, .inl (J 0, 8, .inl (fun _ => 0))), (a + 11, .inl (J 0, 8, .inl (fun _ => 0))), (a + 12, .inl (J 0, 8, .inl (fun _ => 0))), (a + 13, .inl (J 0, 8, .inl (fun _ => 0))), (a + 14, .inl (J 0, 8, .inl (fun _ => 0))), (a + 15, .inl (J 0, 8, .inl (fun _ => 0))), (a + 16, .inl (J 0, 8, .inl (fun _ => 0))), (a + 17, .inl (J 0, 8, .inl (fun _ => 0))), (a + 18, .inl (J 0, 8, .inl (fun _ => 0))), (a + 19, .inl (J 0, 240, .inl (fun _ => 0)))]) rfl rfl (by rw [← ht]; exact hB.2) (by rw [← ht]; exact hB.1) hk1 hS
  clear hk1 hS hB hz1 ht hp hvm
  clear t
  revert hI
  generalize H1 = H
  generalize locs1 = locs
  intro hI
  exact W.vret hx hb B.returns (fun t ht hW => ⟨⟨(), rfl, trivial, by rw [ht]; exact hI.1, by rw [ht]; exact hI.2.2.1⟩, hI.2.2.2.F ht⟩) hI.2.2.2.2.2 dX2_init_174 B.notSynchronized

set_option maxHeartbeats 4000000 in
set_option maxRecDepth 20000 in
theorem mX3_init (aK aV : Nat → Nat) (e0 : Nat) : MKc yX3_init cX3_init 1 1 40 1 400 (EM aK aV e0) vwC (fun a => []) (.inr (2, [.null, .int 0, .int 0, .int 0, .int 0, .int 0, .int 0])) (fun J a => [(a, .inr (2, [.ref (a + 1), .int 0, .int 0, .int 0, .int 0, .int (-1 : Int32), .int 0])), (a + 1, .inl (J 2, 400, .inl (fun _ => 0)))]) := by
  intro l D J z a hz
  refine Met.ofW (cc := cX3_init) (maxL := 1) (ret := none) (by decide) rfl ?_
  intro p e s m args below meth c s₁ B hml hv
  obtain ⟨rfl, hsz, hat, hE⟩ := hv
  have hts := atoms_spec (ws := ws_ yX3_init cX3_init 1 none) B.pre
  have hts : ∀ w ∈ lw_all, w.before _ s = true := fun w h => hts w (List.mem_cons_of_mem _ h)
  have hown : s.vm.findClass RX3 = some m.cls := findClass_of_methodNamed B.named
  have hin : meth.name = "<init>" := (name_of_methodNamed B.named B.method).1
  have hl := lv_entry [.ref a] (n := 1) (Nat.le_of_ble_eq_true rfl)
  rw [lg_entry_eq]
  generalize (lg_sl [.ref a] ++ List.replicate (1 - (lg_sl [.ref a]).length) Slot.unset).toArray = ls at hl ⊢
  have hl : lv_has ls 1 [(0, .ref a)] := hl
  have hx := B.exec
  have hb := B.bytes
  have hI : IN D vwC a [(a, .inr (2, [.null, .int 0, .int 0, .int 0, .int 0, .int 0, .int 0]))] s s.heap [] := ⟨va_P1 hat, CW.one, hsz, va_S.rf⟩
  obtain ⟨H, eH⟩ : ∃ H, H = s.heap := ⟨_, rfl⟩
  obtain ⟨locs, eL⟩ : ∃ L : List Loc, L = [] := ⟨_, rfl⟩
  rw [← eH, ← eL] at hI ⊢
  refine lv_aload_n hx hb dX3_init_0 rfl (lv_at hl 0 rfl) ?_
  refine W.objInit hx hb hown (hts _ q325) (hts _ q183) (hts _ q184) rfl (by rw [hml]; exact hl.1) rfl dX3_init_1 (Nat.le_of_ble_eq_true rfl) (Nat.le_of_ble_eq_true rfl) ?_
  refine W.eq (g2 := F0 m 4 ls []) rfl ?_
  refine lv_aload_n hx hb dX3_init_4 rfl (lv_at hl 0 rfl) ?_
  refine lv_sipush (v := (400 : Int32)) hx hb dX3_init_5 (by decide) ?_
  refine gnewa (D := D) (cl := vwC) (atype := .byte) (ty := .byte) (cA := J 2) (a0 := (400, .inl (fun _ => 0))) (h := a + 1) hx hb hts q352 rfl (hE.1.1.2 2 _ rfl).2 (fun _ => rfl) (by decide) rfl (by decide) (hI.2.2.1) (Nat.le_of_ble_eq_true rfl) (Nat.le_of_ble_eq_true rfl) dX3_init_8 (fun H h1 h2 h3 => ?_)
  replace hI := hI.new (ws' := [(a, .inr (2, [.null, .int 0, .int 0, .int 0, .int 0, .int 0, .int 0])), (a + 1, .inl (J 2, 400, .inl (fun _ => 0)))]) rfl rfl h1 h2 h3
  clear h1 h2 h3
  refine gputF hx hb hts in_X3 tyX3 tyX3_ok nmX3 hown hE.1.1 (hI.1 0 _ rfl) rfl 0 (by decide) q326 rfl hin rfl rfl rfl (Nat.le_of_ble_eq_true rfl) dX3_init_10 (fun H locs h1 h2 h3 h4 => ?_)
  replace hI := hI.put (P := 0) (ws' := [(a, .inr (2, [.ref (a + 1), .int 0, .int 0, .int 0, .int 0, .int 0, .int 0])), (a + 1, .inl (J 2, 400, .inl (fun _ => 0)))]) rfl rfl h1 h2 h3 h4
  clear h1 h2 h3 h4
  refine lv_aload_n hx hb dX3_init_13 rfl (lv_at hl 0 rfl) ?_
  refine lv_iconst (v := (-1 : Int32)) hx hb dX3_init_14 (by decide) ?_
  refine gput hx hb hts in_X3 tyX3 tyX3_ok nmX3 hown hE.1.1 (hI.1 0 _ rfl) rfl 5 (by decide) q334 rfl rfl rfl (Nat.le_of_ble_eq_true rfl) dX3_init_15 (fun H locs h1 h2 h3 h4 => ?_)
  replace hI := hI.put (P := 0) (ws' := [(a, .inr (2, [.ref (a + 1), .int 0, .int 0, .int 0, .int 0, .int (-1 : Int32), .int 0])), (a + 1, .inl (J 2, 400, .inl (fun _ => 0)))]) rfl rfl h1 h2 h3 h4
  clear h1 h2 h3 h4
  exact W.vret hx hb B.returns (fun t ht hW => ⟨⟨(), rfl, trivial, by rw [ht]; exact hI.1, by rw [ht]; exact hI.2.2.1⟩, hI.2.2.2.F ht⟩) hI.2.2.2.2.2 dX3_init_18 B.notSynchronized

set_option maxHeartbeats 4000000 in
set_option maxRecDepth 20000 in
theorem mX4_init (aK aV : Nat → Nat) (e0 : Nat) : MKc yX4_init cX4_init 1 1 40 0 0 (EM aK aV e0) vwC (fun a => []) (.inr (3, [.int 0, .int 0, .int 0, .int 0, .int 0, .int 0, .int 0, .int 0, .int 0])) (fun J a => [(a, .inr (3, [.int 0, .int 0, .int 0, .int 0, .int 0, .int 0, .int 0, .int 0, .int 0]))]) := by
  intro l D J z a hz
  refine Met.ofW (cc := cX4_init) (maxL := 1) (ret := none) (by decide) rfl ?_
  intro p e s m args below meth c s₁ B hml hv
  obtain ⟨rfl, hsz, hat, hE⟩ := hv
  have hts := atoms_spec (ws := ws_ yX4_init cX4_init 1 none) B.pre
  have hts : ∀ w ∈ lw_all, w.before _ s = true := fun w h => hts w (List.mem_cons_of_mem _ h)
  have hown : s.vm.findClass RX4 = some m.cls := findClass_of_methodNamed B.named
  have hin : meth.name = "<init>" := (name_of_methodNamed B.named B.method).1
  have hl := lv_entry [.ref a] (n := 1) (Nat.le_of_ble_eq_true rfl)
  rw [lg_entry_eq]
  generalize (lg_sl [.ref a] ++ List.replicate (1 - (lg_sl [.ref a]).length) Slot.unset).toArray = ls at hl ⊢
  have hl : lv_has ls 1 [(0, .ref a)] := hl
  have hx := B.exec
  have hb := B.bytes
  have hI : IN D vwC a [(a, .inr (3, [.int 0, .int 0, .int 0, .int 0, .int 0, .int 0, .int 0, .int 0, .int 0]))] s s.heap [] := ⟨va_P1 hat, CW.one, hsz, va_S.rf⟩
  obtain ⟨H, eH⟩ : ∃ H, H = s.heap := ⟨_, rfl⟩
  obtain ⟨locs, eL⟩ : ∃ L : List Loc, L = [] := ⟨_, rfl⟩
  rw [← eH, ← eL] at hI ⊢
  refine lv_aload_n hx hb dX4_init_0 rfl (lv_at hl 0 rfl) ?_
  refine W.objInit hx hb hown (hts _ q358) (hts _ q183) (hts _ q184) rfl (by rw [hml]; exact hl.1) rfl dX4_init_1 (Nat.le_of_ble_eq_true rfl) (Nat.le_of_ble_eq_true rfl) ?_
  refine W.eq (g2 := F0 m 4 ls []) rfl ?_
  exact W.vret hx hb B.returns (fun t ht hW => ⟨⟨(), rfl, trivial, by rw [ht]; exact hI.1, by rw [ht]; exact hI.2.2.1⟩, hI.2.2.2.F ht⟩) hI.2.2.2.2.2 dX4_init_4 B.notSynchronized

set_option maxHeartbeats 4000000 in
set_option maxRecDepth 20000 in
theorem mX5_init (aK aV : Nat → Nat) (e0 : Nat) (o : Nat) : MKc yX5_init cX5_init 2 1 40 0 0 (EM aK aV e0) vwC (fun a => [.ref o]) (.inr (4, [.int 0, .int 0, .int 0, .long 0, .null])) (fun J a => [(a, .inr (4, [.int 0, .int 0, .int 0, .long 0, .ref o]))]) := by
  intro l D J z a hz
  refine Met.ofW (cc := cX5_init) (maxL := 2) (ret := none) (by decide) rfl ?_
  intro p e s m args below meth c s₁ B hml hv
  obtain ⟨rfl, hsz, hat, hE⟩ := hv
  have hts := atoms_spec (ws := ws_ yX5_init cX5_init 2 none) B.pre
  have hts : ∀ w ∈ lw_all, w.before _ s = true := fun w h => hts w (List.mem_cons_of_mem _ h)
  have hown : s.vm.findClass RX5 = some m.cls := findClass_of_methodNamed B.named
  have hin : meth.name = "<init>" := (name_of_methodNamed B.named B.method).1
  have hl := lv_entry [.ref a, .ref o] (n := 2) (Nat.le_of_ble_eq_true rfl)
  rw [lg_entry_eq]
  generalize (lg_sl [.ref a, .ref o] ++ List.replicate (2 - (lg_sl [.ref a, .ref o]).length) Slot.unset).toArray = ls at hl ⊢
  have hl : lv_has ls 2 [(0, .ref a), (1, .ref o)] := hl
  have hx := B.exec
  have hb := B.bytes
  have hI : IN D vwC a [(a, .inr (4, [.int 0, .int 0, .int 0, .long 0, .null]))] s s.heap [] := ⟨va_P1 hat, CW.one, hsz, va_S.rf⟩
  obtain ⟨H, eH⟩ : ∃ H, H = s.heap := ⟨_, rfl⟩
  obtain ⟨locs, eL⟩ : ∃ L : List Loc, L = [] := ⟨_, rfl⟩
  rw [← eH, ← eL] at hI ⊢
  refine lv_aload_n hx hb dX5_init_0 rfl (lv_at hl 0 rfl) ?_
  refine lv_aload_n hx hb dX5_init_1 rfl (lv_at hl 1 rfl) ?_
  refine gputF hx hb hts in_X5 tyX5 tyX5_ok nmX5 hown hE.1.1 (hI.1 0 _ rfl) rfl 4 (by decide) q409 rfl hin rfl rfl rfl (Nat.le_of_ble_eq_true rfl) dX5_init_2 (fun H locs h1 h2 h3 h4 => ?_)
  replace hI := hI.put (P := 0) (ws' := [(a, .inr (4, [.int 0, .int 0, .int 0, .long 0, .ref o]))]) rfl rfl h1 h2 h3 h4
  clear h1 h2 h3 h4
  refine lv_aload_n hx hb dX5_init_5 rfl (lv_at hl 0 rfl) ?_
  refine W.objInit hx hb hown (hts _ q401) (hts _ q183) (hts _ q184) rfl (by rw [hml]; exact hl.1) rfl dX5_init_6 (Nat.le_of_ble_eq_true rfl) (Nat.le_of_ble_eq_true rfl) ?_
  refine W.eq (g2 := F0 m 9 ls []) rfl ?_
  exact W.vret hx hb B.returns (fun t ht hW => ⟨⟨(), rfl, trivial, by rw [ht]; exact hI.1, by rw [ht]; exact hI.2.2.1⟩, hI.2.2.2.F ht⟩) hI.2.2.2.2.2 dX5_init_9 B.notSynchronized

set_option maxHeartbeats 4000000 in
set_option maxRecDepth 20000 in
theorem mX6_init (aK aV : Nat → Nat) (e0 : Nat) (o : Nat) : MKc yX6_init cX6_init 2 1 40 2 252 (EM aK aV e0) vwC (fun a => [.ref o]) (.inr (5, [.null, .null, .null])) (fun J a => [(a, .inr (5, [.ref (a + 1), .ref (a + 2), .ref o])), (a + 1, .inl (J 0, 126, .inl (fun _ => 0))), (a + 2, .inl (J 0, 126, .inl (fun _ => 0)))]) := by
  intro l D J z a hz
  refine Met.ofW (cc := cX6_init) (maxL := 2) (ret := none) (by decide) rfl ?_
  intro p e s m args below meth c s₁ B hml hv
  obtain ⟨rfl, hsz, hat, hE⟩ := hv
  have hts := atoms_spec (ws := ws_ yX6_init cX6_init 2 none) B.pre
  have hts : ∀ w ∈ lw_all, w.before _ s = true := fun w h => hts w (List.mem_cons_of_mem _ h)
  have hown : s.vm.findClass RX6 = some m.cls := findClass_of_methodNamed B.named
  have hin : meth.name = "<init>" := (name_of_methodNamed B.named B.method).1
  have hl := lv_entry [.ref a, .ref o] (n := 2) (Nat.le_of_ble_eq_true rfl)
  rw [lg_entry_eq]
  generalize (lg_sl [.ref a, .ref o] ++ List.replicate (2 - (lg_sl [.ref a, .ref o]).length) Slot.unset).toArray = ls at hl ⊢
  have hl : lv_has ls 2 [(0, .ref a), (1, .ref o)] := hl
  have hx := B.exec
  have hb := B.bytes
  have hI : IN D vwC a [(a, .inr (5, [.null, .null, .null]))] s s.heap [] := ⟨va_P1 hat, CW.one, hsz, va_S.rf⟩
  obtain ⟨H, eH⟩ : ∃ H, H = s.heap := ⟨_, rfl⟩
  obtain ⟨locs, eL⟩ : ∃ L : List Loc, L = [] := ⟨_, rfl⟩
  rw [← eH, ← eL] at hI ⊢
  refine lv_aload_n hx hb dX6_init_0 rfl (lv_at hl 0 rfl) ?_
  refine lv_aload_n hx hb dX6_init_1 rfl (lv_at hl 1 rfl) ?_
  refine gputF hx hb hts in_X6 tyX6 tyX6_ok nmX6 hown hE.1.1 (hI.1 0 _ rfl) rfl 2 (by decide) q455 rfl hin rfl rfl rfl (Nat.le_of_ble_eq_true rfl) dX6_init_2 (fun H locs h1 h2 h3 h4 => ?_)
  replace hI := hI.put (P := 0) (ws' := [(a, .inr (5, [.null, .null, .ref o]))]) rfl rfl h1 h2 h3 h4
  clear h1 h2 h3 h4
  refine lv_aload_n hx hb dX6_init_5 rfl (lv_at hl 0 rfl) ?_
  refine W.objInit hx hb hown (hts _ q452) (hts _ q183) (hts _ q184) rfl (by rw [hml]; exact hl.1) rfl dX6_init_6 (Nat.le_of_ble_eq_true rfl) (Nat.le_of_ble_eq_true rfl) ?_
  refine W.eq (g2 := F0 m 9 ls []) rfl ?_
  refine lv_aload_n hx hb dX6_init_9 rfl (lv_at hl 0 rfl) ?_
  refine lv_bipush (v := (126 : Int32)) hx hb dX6_init_10 (by decide) ?_
  refine gnewa (D := D) (cl := vwC) (atype := .int) (ty := .int) (cA := J 0) (a0 := (126, .inl (fun _ => 0))) (h := a + 1) hx hb hts q318 rfl (hE.1.1.2 0 _ rfl).2 (fun _ => rfl) (by decide) rfl (by decide) (hI.2.2.1) (Nat.le_of_ble_eq_true rfl) (Nat.le_of_ble_eq_true rfl) dX6_init_12 (fun H h1 h2 h3 => ?_)
  replace hI := hI.new (ws' := [(a, .inr (5, [.null, .null, .ref o])), (a + 1, .inl (J 0, 126, .inl (fun _ => 0)))]) rfl rfl h1 h2 h3
  clear h1 h2 h3
  refine gputF hx hb hts in_X6 tyX6 tyX6_ok nmX6 hown hE.1.1 (hI.1 0 _ rfl) rfl 0 (by decide) q453 rfl hin rfl rfl rfl (Nat.le_of_ble_eq_true rfl) dX6_init_14 (fun H locs h1 h2 h3 h4 => ?_)
  replace hI := hI.put (P := 0) (ws' := [(a, .inr (5, [.ref (a + 1), .null, .ref o])), (a + 1, .inl (J 0, 126, .inl (fun _ => 0)))]) rfl rfl h1 h2 h3 h4
  clear h1 h2 h3 h4
  refine lv_aload_n hx hb dX6_init_17 rfl (lv_at hl 0 rfl) ?_
  refine lv_bipush (v := (126 : Int32)) hx hb dX6_init_18 (by decide) ?_
  refine gnewa (D := D) (cl := vwC) (atype := .int) (ty := .int) (cA := J 0) (a0 := (126, .inl (fun _ => 0))) (h := a + 2) hx hb hts q318 rfl (hE.1.1.2 0 _ rfl).2 (fun _ => rfl) (by decide) rfl (by decide) (hI.2.2.1) (Nat.le_of_ble_eq_true rfl) (Nat.le_of_ble_eq_true rfl) dX6_init_20 (fun H h1 h2 h3 => ?_)
  replace hI := hI.new (ws' := [(a, .inr (5, [.ref (a + 1), .null, .ref o])), (a + 1, .inl (J 0, 126, .inl (fun _ => 0))), (a + 2, .inl (J 0, 126, .inl (fun _ => 0)))]) rfl rfl h1 h2 h3
  clear h1 h2 h3
  refine gputF hx hb hts in_X6 tyX6 tyX6_ok nmX6 hown hE.1.1 (hI.1 0 _ rfl) rfl 1 (by decide) q454 rfl hin rfl rfl rfl (Nat.le_of_ble_eq_true rfl) dX6_init_22 (fun H locs h1 h2 h3 h4 => ?_)
  replace hI := hI.put (P := 0) (ws' := [(a, .inr (5, [.ref (a + 1), .ref (a + 2), .ref o])), (a + 1, .inl (J 0, 126, .inl (fun _ => 0))), (a + 2, .inl (J 0, 126, .inl (fun _ => 0)))]) rfl rfl h1 h2 h3 h4
  clear h1 h2 h3 h4
  exact W.vret hx hb B.returns (fun t ht hW => ⟨⟨(), rfl, trivial, by rw [ht]; exact hI.1, by rw [ht]; exact hI.2.2.1⟩, hI.2.2.2.F ht⟩) hI.2.2.2.2.2 dX6_init_25 B.notSynchronized

set_option maxHeartbeats 4000000 in
set_option maxRecDepth 20000 in
theorem mX1_init (aK aV : Nat → Nat) (e0 : Nat) : MKc yX1_init cX1_init 1 4 100 110 3258 (EM aK aV e0) vwC (fun a => []) (.inr (0, [.null, .null, .null, .int 0, .null, .null, .null, .null, .null, .null, .null, .null, .null])) (fun J a => ((((((((((([(a, .inr (0, [.ref (a + 1), .ref (a + 21), .ref (a + 41), .int 0, .ref (a + 61), .ref (a + 63), .ref (a + 64), .ref (a + 84), .ref (a + 85), .ref (a + 86), .ref (a + 89), .ref (a + 90), .ref (a + 91)]))] ++ ctW J (a + 1) none w0) ++ ctW J (a + 21) none w0) ++ ctW J (a + 41) none w0) ++ [(a + 61, .inr (2, [.ref (a + 61 + 1), .int 0, .int 0, .int 0, .int 0, .int (-1 : Int32), .int 0])), (a + 61 + 1, .inl (J 2, 400, .inl (fun _ => 0)))]) ++ [(a + 63, .inr (3, [.int 0, .int 0, .int 0, .int 0, .int 0, .int 0, .int 0, .int 0, .int 0]))]) ++ ctW J (a + 64) none w0) ++ [(a + 84, .inr (4, [.int 0, .int 0, .int 0, .long 0, .ref a]))]) ++ [(a + 85, .inr (6, [.int (0 : Int32), .ref e0, .int 0]))]) ++ [(a + 86, .inr (5, [.ref (a + 86 + 1), .ref (a + 86 + 2), .ref a])), (a + 86 + 1, .inl (J 0, 126, .inl (fun _ => 0))), (a + 86 + 2, .inl (J 0, 126, .inl (fun _ => 0)))]) ++ [(a + 89, .inl (J 0, 8, .inl (fun _ => 0))), (a + 90, .inl (J 0, 576, .inl (fun _ => 0)))]) ++ ctW J (a + 91) none w0)) := by
  intro l D J z a hz
  refine Met.ofW (cc := cX1_init) (maxL := 1) (ret := none) (by decide) rfl ?_
  intro p e s m args below meth c s₁ B hml hv
  obtain ⟨rfl, hsz, hat, hE⟩ := hv
  have hts := atoms_spec (ws := ws_ yX1_init cX1_init 1 none) B.pre
  have hts : ∀ w ∈ lw_all, w.before _ s = true := fun w h => hts w (List.mem_cons_of_mem _ h)
  have hown : s.vm.findClass RX1 = some m.cls := findClass_of_methodNamed B.named
  have hin : meth.name = "<init>" := (name_of_methodNamed B.named B.method).1
  have hl := lv_entry [.ref a] (n := 1) (Nat.le_of_ble_eq_true rfl)
  rw [lg_entry_eq]
  generalize (lg_sl [.ref a] ++ List.replicate (1 - (lg_sl [.ref a]).length) Slot.unset).toArray = ls at hl ⊢
  have hl : lv_has ls 1 [(0, .ref a)] := hl
  have hx := B.exec
  have hb := B.bytes
  have hI : IN D vwC a [(a, .inr (0, [.null, .null, .null, .int 0, .null, .null, .null, .null, .null, .null, .null, .null, .null]))] s s.heap [] := ⟨va_P1 hat, CW.one, hsz, va_S.rf⟩
  obtain ⟨H, eH⟩ : ∃ H, H = s.heap := ⟨_, rfl⟩
  obtain ⟨locs, eL⟩ : ∃ L : List Loc, L = [] := ⟨_, rfl⟩
  rw [← eH, ← eL] at hI ⊢
  refine lv_aload_n hx hb dX1_init_0 rfl (lv_at hl 0 rfl) ?_
  refine W.objInit hx hb hown (hts _ q182) (hts _ q183) (hts _ q184) rfl (by rw [hml]; exact hl.1) rfl dX1_init_1 (Nat.le_of_ble_eq_true rfl) (Nat.le_of_ble_eq_true rfl) ?_
  refine W.eq (g2 := F0 m 4 ls []) rfl ?_
  refine lv_aload_n hx hb dX1_init_4 rfl (lv_at hl 0 rfl) ?_
  refine gnew (C := RX2) (T := TX2) (N := 29) (ci := 1) (fs := [.int 0, .int 0, .int 0, .int 0, .int 0, .int 0, .int 0, .int 0, .int 0, .null, .null, .null, .null, .null, .null, .null, .null, .null, .null, .null, .null, .null, .null, .null, .null, .null, .null, .null, .null]) (h := a + 1) hx hb hts in_X2 tyX2 tyX2_ok hown q185 q186 q134 hE.1.1 rfl (dvX2) hI.2.2.1 (Nat.le_of_ble_eq_true rfl) (Nat.le_of_ble_eq_true rfl) dX1_init_5 (fun H h1 h2 h3 => ?_)
  replace hI := hI.new (ws' := [(a, .inr (0, [.null, .null, .null, .int 0, .null, .null, .null, .null, .null, .null, .null, .null, .null])), (a + 1, .inr (1, [.int 0, .int 0, .int 0, .int 0, .int 0, .int 0, .int 0, .int 0, .int 0, .null, .null, .null, .null, .null, .null, .null, .null, .null, .null, .null, .null, .null, .null, .null, .null, .null, .null, .null, .null]))]) rfl rfl h1 h2 h3
  clear h1 h2 h3
  refine lv_dup hx hb dX1_init_8 rfl ?_
  refine va_callv (va_runI (As := []) (rest := [.ref (a + 1), .ref a]) ⟨hx, hb, hml, hown, hts⟩ (mX2_init aK aV e0 l D J z (a + 1) (Nat.le_trans hz (Nat.le_add_right _ _))) (cwI 0 hts (lw_meth q189) rfl rfl rfl (hts _ q134) (hts _ q187) (hts _ q188) rfl (by decide +kernel) ⟨Nat.le_of_ble_eq_true rfl, Nat.le_of_ble_eq_true rfl⟩) ⟨fun _ U g mk q => ⟨q.1, q.2.1, q.2.2.1, q.2.2.2.go (State.WarmedH.refl U) (fun _ _ _ => rfl)⟩, fun U hU hW => ⟨rfl, by rw [hU]; exact hI.2.2.1, by rw [hU]; exact hI.1 1 _ rfl, hE.go hW (fun q h1 h2 => by rw [hU]; exact hI.2.2.2.2.1 q h1 (fun h3 => h2 (Nat.le_trans hz h3)))⟩⟩ rfl rfl hl.1 rfl (lv_room (Nat.le_of_ble_eq_true rfl)) dX1_init_9 ⟨Nat.le_of_ble_eq_true rfl, Nat.le_of_ble_eq_true rfl⟩) hI.2.2.2 (fun q _ h => Nat.le_trans (Nat.le_add_right _ _) h) (fun q h => Nat.le_trans (Nat.le_add_right _ _) h) (fun u t H1 locs1 ht hvm hp hB hz1 hk1 hS => ?_)
  replace hI := hI.call (wr := [(a, .inr (0, [.null, .null, .null, .int 0, .null, .null, .null, .null, .null, .null, .null, .null, .null]))]) (w1 := ctW J (a + 1) none w0) (ws' := ([(a, .inr (0, [.null, .null, .null, .int 0, .null, .null, .null, .null, .null, .null, .null, .null, .null]))] ++ ctW J (a + 1) none w0)) (b := a + 1) rfl rfl (by rw [← ht]; exact hB.1) (fun i q h => (ctW_at i q h).1) (by rw [← ht]; exact hB.2) hk1 hS
  clear hk1 hS hB hz1 ht hp hvm
  clear t
  revert hI
  generalize H1 = H
  generalize locs1 = locs
  intro hI
  refine gputF hx hb hts in_X1 tyX1 tyX1_ok nmX1 hown hE.1.1 (hI.1 0 _ rfl) rfl 0 (by decide) q463 rfl hin rfl rfl rfl (Nat.le_of_ble_eq_true rfl) dX1_init_12 (fun H locs h1 h2 h3 h4 => ?_)
  replace hI := hI.put (P := 0) (ws' := ([(a, .inr (0, [.ref (a + 1), .null, .null, .int 0, .null, .null, .null, .null, .null, .null, .null, .null, .null]))] ++ ctW J (a + 1) none w0)) rfl rfl h1 h2 h3 h4
  clear h1 h2 h3 h4
  refine lv_aload_n hx hb dX1_init_15 rfl (lv_at hl 0 rfl) ?_
  refine gnew (C := RX2) (T := TX2) (N := 29) (ci := 1) (fs := [.int 0, .int 0, .int 0, .int 0, .int 0, .int 0, .int 0, .int 0, .int 0, .null, .null, .null, .null, .null, .null, .null, .null, .null, .null, .null, .null, .null, .null, .null, .null, .null, .null, .null, .null]) (h := a + 21) hx hb hts in_X2 tyX2 tyX2_ok hown q185 q186 q134 hE.1.1 rfl (dvX2) hI.2.2.1 (Nat.le_of_ble_eq_true rfl) (Nat.le_of_ble_eq_true rfl) dX1_init_16 (fun H h1 h2 h3 => ?_)
  replace hI := hI.new (ws' := (([(a, .inr (0, [.ref (a + 1), .null, .null, .int 0, .null, .null, .null, .null, .null, .null, .null, .null, .null]))] ++ ctW J (a + 1) none w0) ++ [(a + 21, .inr (1, [.int 0, .int 0, .int 0, .int 0, .int 0, .int 0, .int 0, .int 0, .int 0, .null, .null, .null, .null, .null, .null, .null, .null, .null, .null, .null, .null, .null, .null, .null, .null, .null, .null, .null, .null]))])) rfl rfl h1 h2 h3
  clear h1 h2 h3
  refine lv_dup hx hb dX1_init_19 rfl ?_
  refine va_callv (va_runI (As := []) (rest := [.ref (a + 21), .ref a]) ⟨hx, hb, hml, hown, hts⟩ (mX2_init aK aV e0 l D J z (a + 21) (Nat.le_trans hz (Nat.le_add_right _ _))) (cwI 0 hts (lw_meth q189) rfl rfl rfl (hts _ q134) (hts _ q187) (hts _ q188) rfl (by decide +kernel) ⟨Nat.le_of_ble_eq_true rfl, Nat.le_of_ble_eq_true rfl⟩) ⟨fun _ U g mk q => ⟨q.1, q.2.1, q.2.2.1, q.2.2.2.go (State.WarmedH.refl U) (fun _ _ _ => rfl)⟩, fun U hU hW => ⟨rfl, by rw [hU]; exact hI.2.2.1, by rw [hU]; exact hI.1 21 _ rfl, hE.go hW (fun q h1 h2 => by rw [hU]; exact hI.2.2.2.2.1 q h1 (fun h3 => h2 (Nat.le_trans hz h3)))⟩⟩ rfl rfl hl.1 rfl (lv_room (Nat.le_of_ble_eq_true rfl)) dX1_init_20 ⟨Nat.le_of_ble_eq_true rfl, Nat.le_of_ble_eq_true rfl⟩) hI.2.2.2 (fun q _ h => Nat.le_trans (Nat.le_add_right _ _) h) (fun q h => Nat.le_trans (Nat.le_add_right _ _) h) (fun u t H1 locs1 ht hvm hp hB hz1 hk1 hS => ?_)
  replace hI := hI.call (wr := ([(a, .inr (0, [.ref (a + 1), .null, .null, .int 0, .null, .null, .null, .null, .null, .null, .null, .null, .null]))] ++ ctW J (a + 1) none w0)) (w1 := ctW J (a + 21) none w0) (ws' := (([(a, .inr (0, [.ref (a + 1), .null, .null, .int 0, .null, .null, .null, .null, .null, .null, .null, .null, .null]))] ++ ctW J (a + 1) none w0) ++ ctW J (a + 21) none w0)) (b := a + 21) rfl rfl (by rw [← ht]; exact hB.1) (fun i q h => (ctW_at i q h).1) (by rw [← ht]; exact hB.2) hk1 hS
  clear hk1 hS hB hz1 ht hp hvm
  clear t
  revert hI
  generalize H1 = H
  generalize locs1 = locs
  intro hI
  refine gputF hx hb hts in_X1 tyX1 tyX1_ok nmX1 hown hE.1.1 (hI.1 0 _ rfl) rfl 1 (by decide) q466 rfl hin rfl rfl rfl (Nat.le_of_ble_eq_true rfl) dX1_init_23 (fun H locs h1 h2 h3 h4 => ?_)
  replace hI := hI.put (P := 0) (ws' := (([(a, .inr (0, [.ref (a + 1), .ref (a + 21), .null, .int 0, .null, .null, .null, .null, .null, .null, .null, .null, .null]))] ++ ctW J (a + 1) none w0) ++ ctW J (a + 21) none w0)) rfl rfl h1 h2 h3 h4
  clear h1 h2 h3 h4
  refine lv_aload_n hx hb dX1_init_26 rfl (lv_at hl 0 rfl) ?_
  refine gnew (C := RX2) (T := TX2) (N := 29) (ci := 1) (fs := [.int 0, .int 0, .int 0, .int 0, .int 0, .int 0, .int 0, .int 0, .int 0, .null, .null, .null, .null, .null, .null, .null, .null, .null, .null, .null, .null, .null, .null, .null, .null, .null, .null, .null, .null]) (h := a + 41) hx hb hts in_X2 tyX2 tyX2_ok hown q185 q186 q134 hE.1.1 rfl (dvX2) hI.2.2.1 (Nat.le_of_ble_eq_true rfl) (Nat.le_of_ble_eq_true rfl) dX1_init_27 (fun H h1 h2 h3 => ?_)
  replace hI := hI.new (ws' := ((([(a, .inr (0, [.ref (a + 1), .ref (a + 21), .null, .int 0, .null, .null, .null, .null, .null, .null, .null, .null, .null]))] ++ ctW J (a + 1) none w0) ++ ctW J (a + 21) none w0) ++ [(a + 41, .inr (1, [.int 0, .int 0, .int 0, .int 0, .int 0, .int 0, .int 0, .int 0, .int 0, .null, .null, .null, .null, .null, .null, .null, .null, .null, .null, .null, .null, .null, .null, .null, .null, .null, .null, .null, .null]))])) rfl rfl h1 h2 h3
  clear h1 h2 h3
  refine lv_dup hx hb dX1_init_30 rfl ?_
  refine va_callv (va_runI (As := []) (rest := [.ref (a + 41), .ref a]) ⟨hx, hb, hml, hown, hts⟩ (mX2_init aK aV e0 l D J z (a + 41) (Nat.le_trans hz (Nat.le_add_right _ _))) (cwI 0 hts (lw_meth q189) rfl rfl rfl (hts _ q134) (hts _ q187) (hts _ q188) rfl (by decide +kernel) ⟨Nat.le_of_ble_eq_true rfl, Nat.le_of_ble_eq_true rfl⟩) ⟨fun _ U g mk q => ⟨q.1, q.2.1, q.2.2.1, q.2.2.2.go (State.WarmedH.refl U) (fun _ _ _ => rfl)⟩, fun U hU hW => ⟨rfl, by rw [hU]; exact hI.2.2.1, by rw [hU]; exact hI.1 41 _ rfl, hE.go hW (fun q h1 h2 => by rw [hU]; exact hI.2.2.2.2.1 q h1 (fun h3 => h2 (Nat.le_trans hz h3)))⟩⟩ rfl rfl hl.1 rfl (lv_room (Nat.le_of_ble_eq_true rfl)) dX1_init_31 ⟨Nat.le_of_ble_eq_true rfl, Nat.le_of_ble_eq_true rfl⟩) hI.2.2.2 (fun q _ h => Nat.le_trans (Nat.le_add_right _ _) h) (fun q h => Nat.le_trans (Nat.le_add_right _ _) h) (fun u t H1 locs1 ht hvm hp hB hz1 hk1 hS => ?_)
  replace hI := hI.call (wr := (([(a, .inr (0, [.ref (a + 1), .ref (a + 21), .null, .int 0, .null, .null, .null, .null, .null, .null, .null, .null, .null]))] ++ ctW J (a + 1) none w0) ++ ctW J (a + 21) none w0)) (w1 := ctW J (a + 41) none w0) (ws' := ((([(a, .inr (0, [.ref (a + 1), .ref (a + 21), .null, .int 0, .null, .null, .null, .null, .null, .null, .null, .null, .null]))] ++ ctW J (a + 1) none w0) ++ ctW J (a + 21) none w0) ++ ctW J (a + 41) none w0)) (b := a + 41) rfl rfl (by rw [← ht]; exact hB.1) (fun i q h => (ctW_at i q h).1) (by rw [← ht]; exact hB.2) hk1 hS
  clear hk1 hS hB hz1 ht hp hvm
  clear t
  revert hI
  generalize H1 = H
  generalize locs1 = locs
  intro hI
  refine gputF hx hb hts in_X1 tyX1 tyX1_ok nmX1 hown hE.1.1 (hI.1 0 _ rfl) rfl 2 (by decide) q467 rfl hin rfl rfl rfl (Nat.le_of_ble_eq_true rfl) dX1_init_34 (fun H locs h1 h2 h3 h4 => ?_)
  replace hI := hI.put (P := 0) (ws' := ((([(a, .inr (0, [.ref (a + 1), .ref (a + 21), .ref (a + 41), .int 0, .null, .null, .null, .null, .null, .null, .null, .null, .null]))] ++ ctW J (a + 1) none w0) ++ ctW J (a + 21) none w0) ++ ctW J (a + 41) none w0)) rfl rfl h1 h2 h3 h4
  clear h1 h2 h3 h4
  refine lv_aload_n hx hb dX1_init_37 rfl (lv_at hl 0 rfl) ?_
  refine gnew (C := RX3) (T := TX3) (N := 7) (ci := 2) (fs := [.null, .int 0, .int 0, .int 0, .int 0, .int 0, .int 0]) (h := a + 61) hx hb hts in_X3 tyX3 tyX3_ok hown q320 q321 q136 hE.1.1 rfl (dvX3) hI.2.2.1 (Nat.le_of_ble_eq_true rfl) (Nat.le_of_ble_eq_true rfl) dX1_init_38 (fun H h1 h2 h3 => ?_)
  replace hI := hI.new (ws' := (((([(a, .inr (0, [.ref (a + 1), .ref (a + 21), .ref (a + 41), .int 0, .null, .null, .null, .null, .null, .null, .null, .null, .null]))] ++ ctW J (a + 1) none w0) ++ ctW J (a + 21) none w0) ++ ctW J (a + 41) none w0) ++ [(a + 61, .inr (2, [.null, .int 0, .int 0, .int 0, .int 0, .int 0, .int 0]))])) rfl rfl h1 h2 h3
  clear h1 h2 h3
  refine lv_dup hx hb dX1_init_41 rfl ?_
  refine va_callv (va_runIN (As := []) (rest := [.ref (a + 61), .ref a]) ⟨hx, hb, hml, hown, hts⟩ (mX3_init aK aV e0 l D J z (a + 61) (Nat.le_trans hz (Nat.le_add_right _ _))) (⟨va_cnB 0 hts (lw_meth q324) rfl rfl rfl (hE.1.2.2.m 0 rfl) (hts _ q136) (by decide +kernel) ⟨Nat.le_of_ble_eq_true rfl, Nat.le_of_ble_eq_true rfl⟩, rfl, hts _ q323⟩) ⟨fun _ U g mk q => ⟨q.1, q.2.1, q.2.2.1, q.2.2.2.go (State.WarmedH.refl U) (fun _ _ _ => rfl)⟩, fun U hU hW => ⟨rfl, by rw [hU]; exact hI.2.2.1, by rw [hU]; exact hI.1 61 _ rfl, hE.go hW (fun q h1 h2 => by rw [hU]; exact hI.2.2.2.2.1 q h1 (fun h3 => h2 (Nat.le_trans hz h3)))⟩⟩ rfl rfl hl.1 rfl (lv_room (Nat.le_of_ble_eq_true rfl)) dX1_init_42 ⟨Nat.le_of_ble_eq_true rfl, Nat.le_of_ble_eq_true rfl⟩) hI.2.2.2 (fun q _ h => Nat.le_trans (Nat.le_add_right _ _) h) (fun q h => Nat.le_trans (Nat.le_add_right _ _) h) (fun u t H1 locs1 ht hvm hp hB hz1 hk1 hS => ?_)
  replace hI := hI.call (wr := ((([(a, .inr (0, [.ref (a + 1), .ref (a + 21), .ref (a + 41), .int 0, .null, .null, .null, .null, .null, .null, .null, .null, .null]))] ++ ctW J (a + 1) none w0) ++ ctW J (a + 21) none w0) ++ ctW J (a + 41) none w0)) (w1 := [(a + 61, .inr (2, [.ref (a + 61 + 1), .int 0, .int 0, .int 0, .int 0, .int (-1 : Int32), .int 0])), (a + 61 + 1, .inl (J 2, 400, .inl (fun _ => 0)))]) (ws' := (((([(a, .inr (0, [.ref (a + 1), .ref (a + 21), .ref (a + 41), .int 0, .null, .null, .null, .null, .null, .null, .null, .null, .null]))] ++ ctW J (a + 1) none w0) ++ ctW J (a + 21) none w0) ++ ctW J (a + 41) none w0) ++ [(a + 61, .inr (2, [.ref (a + 61 + 1), .int 0, .int 0, .int 0, .int 0, .int (-1 : Int32), .int 0])), (a + 61 + 1, .inl (J 2, 400, .inl (fun _ => 0)))])) (b := a + 61) rfl rfl (by rw [← ht]; exact hB.1) (by intro i q h; match i, h with | 0, h => cases h; rfl | 1, h => cases h; rfl | i + 2, h => cases h) (by rw [← ht]; exact hB.2) hk1 hS
  clear hk1 hS hB hz1 ht hp hvm
  clear t
  revert hI
  generalize H1 = H
  generalize locs1 = locs
  intro hI
  refine gputF hx hb hts in_X1 tyX1 tyX1_ok nmX1 hown hE.1.1 (hI.1 0 _ rfl) rfl 4 (by decide) q469 rfl hin rfl rfl rfl (Nat.le_of_ble_eq_true rfl) dX1_init_45 (fun H locs h1 h2 h3 h4 => ?_)
  replace hI := hI.put (P := 0) (ws' := (((([(a, .inr (0, [.ref (a + 1), .ref (a + 21), .ref (a + 41), .int 0, .ref (a + 61), .null, .null, .null, .null, .null, .null, .null, .null]))] ++ ctW J (a + 1) none w0) ++ ctW J (a + 21) none w0) ++ ctW J (a + 41) none w0) ++ [(a + 61, .inr (2, [.ref (a + 61 + 1), .int 0, .int 0, .int 0, .int 0, .int (-1 : Int32), .int 0])), (a + 61 + 1, .inl (J 2, 400, .inl (fun _ => 0)))])) rfl rfl h1 h2 h3 h4
  clear h1 h2 h3 h4
  refine lv_aload_n hx hb dX1_init_48 rfl (lv_at hl 0 rfl) ?_
  refine gnew (C := RX4) (T := TX4) (N := 9) (ci := 3) (fs := [.int 0, .int 0, .int 0, .int 0, .int 0, .int 0, .int 0, .int 0, .int 0]) (h := a + 63) hx hb hts in_X4 tyX4 tyX4_ok hown q353 q354 q137 hE.1.1 rfl (dvX4) hI.2.2.1 (Nat.le_of_ble_eq_true rfl) (Nat.le_of_ble_eq_true rfl) dX1_init_49 (fun H h1 h2 h3 => ?_)
  replace hI := hI.new (ws' := ((((([(a, .inr (0, [.ref (a + 1), .ref (a + 21), .ref (a + 41), .int 0, .ref (a + 61), .null, .null, .null, .null, .null, .null, .null, .null]))] ++ ctW J (a + 1) none w0) ++ ctW J (a + 21) none w0) ++ ctW J (a + 41) none w0) ++ [(a + 61, .inr (2, [.ref (a + 61 + 1), .int 0, .int 0, .int 0, .int 0, .int (-1 : Int32), .int 0])), (a + 61 + 1, .inl (J 2, 400, .inl (fun _ => 0)))]) ++ [(a + 63, .inr (3, [.int 0, .int 0, .int 0, .int 0, .int 0, .int 0, .int 0, .int 0, .int 0]))])) rfl rfl h1 h2 h3
  clear h1 h2 h3
  refine lv_dup hx hb dX1_init_52 rfl ?_
  refine va_callv (va_runIN (As := []) (rest := [.ref (a + 63), .ref a]) ⟨hx, hb, hml, hown, hts⟩ (mX4_init aK aV e0 l D J z (a + 63) (Nat.le_trans hz (Nat.le_add_right _ _))) (⟨va_cnB 0 hts (lw_meth q357) rfl rfl rfl (hE.1.2.2.m 1 rfl) (hts _ q137) (by decide +kernel) ⟨Nat.le_of_ble_eq_true rfl, Nat.le_of_ble_eq_true rfl⟩, rfl, hts _ q356⟩) ⟨fun _ U g mk q => ⟨q.1, q.2.1, q.2.2.1, q.2.2.2.go (State.WarmedH.refl U) (fun _ _ _ => rfl)⟩, fun U hU hW => ⟨rfl, by rw [hU]; exact hI.2.2.1, by rw [hU]; exact hI.1 63 _ rfl, hE.go hW (fun q h1 h2 => by rw [hU]; exact hI.2.2.2.2.1 q h1 (fun h3 => h2 (Nat.le_trans hz h3)))⟩⟩ rfl rfl hl.1 rfl (lv_room (Nat.le_of_ble_eq_true rfl)) dX1_init_53 ⟨Nat.le_of_ble_eq_true rfl, Nat.le_of_ble_eq_true rfl⟩) hI.2.2.2 (fun q _ h => Nat.le_trans (Nat.le_add_right _ _) h) (fun q h => Nat.le_trans (Nat.le_add_right _ _) h) (fun u t H1 locs1 ht hvm hp hB hz1 hk1 hS => ?_)
  replace hI := hI.call (wr := (((([(a, .inr (0, [.ref (a + 1), .ref (a + 21), .ref (a + 41), .int 0, .ref (a + 61), .null, .null, .null, .null, .null, .null, .null, .null]))] ++ ctW J (a + 1) none w0) ++ ctW J (a + 21) none w0) ++ ctW J (a + 41) none w0) ++ [(a + 61, .inr (2, [.ref (a + 61 + 1), .int 0, .int 0, .int 0, .int 0, .int (-1 : Int32), .int 0])), (a + 61 + 1, .inl (J 2, 400, .inl (fun _ => 0)))])) (w1 := [(a + 63, .inr (3, [.int 0, .int 0, .int 0, .int 0, .int 0, .int 0, .int 0, .int 0, .int 0]))]) (ws' := ((((([(a, .inr (0, [.ref (a + 1), .ref (a + 21), .ref (a + 41), .int 0, .ref (a + 61), .null, .null, .null, .null, .null, .null, .null, .null]))] ++ ctW J (a + 1) none w0) ++ ctW J (a + 21) none w0) ++ ctW J (a + 41) none w0) ++ [(a + 61, .inr (2, [.ref (a + 61 + 1), .int 0, .int 0, .int 0, .int 0, .int (-1 : Int32), .int 0])), (a + 61 + 1, .inl (J 2, 400, .inl (fun _ => 0)))]) ++ [(a + 63, .inr (3, [.int 0, .int 0, .int 0, .int 0, .int 0, .int 0, .int 0, .int 0, .int 0]))])) (b := a + 63) rfl rfl (by rw [← ht]; exact hB.1) CW.one (by rw [← ht]; exact hB.2) hk1 hS
  clear hk1 hS hB hz1 ht hp hvm
  clear t
  revert hI
  generalize H1 = H
  generalize locs1 = locs
  intro hI
  refine gputF hx hb hts in_X1 tyX1 tyX1_ok nmX1 hown hE.1.1 (hI.1 0 _ rfl) rfl 5 (by decide) q471 rfl hin rfl rfl rfl (Nat.le_of_ble_eq_true rfl) dX1_init_56 (fun H locs h1 h2 h3 h4 => ?_)
  replace hI := hI.put (P := 0) (ws' := ((((([(a, .inr (0, [.ref (a + 1), .ref (a + 21), .ref (a + 41), .int 0, .ref (a + 61), .ref (a + 63), .null, .null, .null, .null, .null, .null, .null]))] ++ ctW J (a + 1) none w0) ++ ctW J (a + 21) none w0) ++ ctW J (a + 41) none w0) ++ [(a + 61, .inr (2, [.ref (a + 61 + 1), .int 0, .int 0, .int 0, .int 0, .int (-1 : Int32), .int 0])), (a + 61 + 1, .inl (J 2, 400, .inl (fun _ => 0)))]) ++ [(a + 63, .inr (3, [.int 0, .int 0, .int 0, .int 0, .int 0, .int 0, .int 0, .int 0, .int 0]))])) rfl rfl h1 h2 h3 h4
  clear h1 h2 h3 h4
  refine lv_aload_n hx hb dX1_init_59 rfl (lv_at hl 0 rfl) ?_
  refine gnew (C := RX2) (T := TX2) (N := 29) (ci := 1) (fs := [.int 0, .int 0, .int 0, .int 0, .int 0, .int 0, .int 0, .int 0, .int 0, .null, .null, .null, .null, .null, .null, .null, .null, .null, .null, .null, .null, .null, .null, .null, .null, .null, .null, .null, .null]) (h := a + 64) hx hb hts in_X2 tyX2 tyX2_ok hown q185 q186 q134 hE.1.1 rfl (dvX2) hI.2.2.1 (Nat.le_of_ble_eq_true rfl) (Nat.le_of_ble_eq_true rfl) dX1_init_60 (fun H h1 h2 h3 => ?_)
  replace hI := hI.new (ws' := (((((([(a, .inr (0, [.ref (a + 1), .ref (a + 21), .ref (a + 41), .int 0, .ref (a + 61), .ref (a + 63), .null, .null, .null, .null, .null, .null, .null]))] ++ ctW J (a + 1) none w0) ++ ctW J (a + 21) none w0) ++ ctW J (a + 41) none w0) ++ [(a + 61, .inr (2, [.ref (a + 61 + 1), .int 0, .int 0, .int 0, .int 0, .int (-1 : Int32), .int 0])), (a + 61 + 1, .inl (J 2, 400, .inl (fun _ => 0)))]) ++ [(a + 63, .inr (3, [.int 0, .int 0, .int 0, .int 0, .int 0, .int 0, .int 0, .int 0, .int 0]))]) ++ [(a + 64, .inr (1, [.int 0, .int 0, .int 0, .int 0, .int 0, .int 0, .int 0, .int 0, .int 0, .null, .null, .null, .null, .null, .null, .null, .null, .null, .null, .null, .null, .null, .null, .null, .null, .null, .null, .null, .null]))])) rfl rfl h1 h2 h3
  clear h1 h2 h3
  refine lv_dup hx hb dX1_init_63 rfl ?_
  refine va_callv (va_runI (As := []) (rest := [.ref (a + 64), .ref a]) ⟨hx, hb, hml, hown, hts⟩ (mX2_init aK aV e0 l D J z (a + 64) (Nat.le_trans hz (Nat.le_add_right _ _))) (cwI 0 hts (lw_meth q189) rfl rfl rfl (hts _ q134) (hts _ q187) (hts _ q188) rfl (by decide +kernel) ⟨Nat.le_of_ble_eq_true rfl, Nat.le_of_ble_eq_true rfl⟩) ⟨fun _ U g mk q => ⟨q.1, q.2.1, q.2.2.1, q.2.2.2.go (State.WarmedH.refl U) (fun _ _ _ => rfl)⟩, fun U hU hW => ⟨rfl, by rw [hU]; exact hI.2.2.1, by rw [hU]; exact hI.1 64 _ rfl, hE.go hW (fun q h1 h2 => by rw [hU]; exact hI.2.2.2.2.1 q h1 (fun h3 => h2 (Nat.le_trans hz h3)))⟩⟩ rfl rfl hl.1 rfl (lv_room (Nat.le_of_ble_eq_true rfl)) dX1_init_64 ⟨Nat.le_of_ble_eq_true rfl, Nat.le_of_ble_eq_true rfl⟩) hI.2.2.2 (fun q _ h => Nat.le_trans (Nat.le_add_right _ _) h) (fun q h => Nat.le_trans (Nat.le_add_right _ _) h) (fun u t H1 locs1 ht hvm hp hB hz1 hk1 hS => ?_)
  replace hI := hI.call (wr := ((((([(a, .inr (0, [.ref (a + 1), .ref (a + 21), .ref (a + 41), .int 0, .ref (a + 61), .ref (a + 63), .null, .null, .null, .null, .null, .null, .null]))] ++ ctW J (a + 1) none w0) ++ ctW J (a + 21) none w0) ++ ctW J (a + 41) none w0) ++ [(a + 61, .inr (2, [.ref (a + 61 + 1), .int 0, .int 0, .int 0, .int 0, .int (-1 : Int32), .int 0])), (a + 61 + 1, .inl (J 2, 400, .inl (fun _ => 0)))]) ++ [(a + 63, .inr (3, [.int 0, .int 0, .int 0, .int 0, .int 0, .int 0, .int 0, .int 0, .int 0]))])) (w1 := ctW J (a + 64) none w0) (ws' := (((((([(a, .inr (0, [.ref (a + 1), .ref (a + 21), .ref (a + 41), .int 0, .ref (a + 61), .ref (a + 63), .null, .null, .null, .null, .null, .null, .null]))] ++ ctW J (a + 1) none w0) ++ ctW J (a + 21) none w0) ++ ctW J (a + 41) none w0) ++ [(a + 61, .inr (2, [.ref (a + 61 + 1), .int 0, .int 0, .int 0, .int 0, .int (-1 : Int32), .int 0])), (a + 61 + 1, .inl (J 2, 400, .inl (fun _ => 0)))]) ++ [(a + 63, .inr (3, [.int 0, .int 0, .int 0, .int 0, .int 0, .int 0, .int 0, .int 0, .int 0]))]) ++ ctW J (a + 64) none w0)) (b := a + 64) rfl rfl (by rw [← ht]; exact hB.1) (fun i q h => (ctW_at i q h).1) (by rw [← ht]; exact hB.2) hk1 hS
  clear hk1 hS hB hz1 ht hp hvm
  clear t
  revert hI
  generalize H1 = H
  generalize locs1 = locs
  intro hI
  refine gputF hx hb hts in_X1 tyX1 tyX1_ok nmX1 hown hE.1.1 (hI.1 0 _ rfl) rfl 6 (by decide) q472 rfl hin rfl rfl rfl (Nat.le_of_ble_eq_true rfl) dX1_init_67 (fun H locs h1 h2 h3 h4 => ?_)
  replace hI := hI.put (P := 0) (ws' := (((((([(a, .inr (0, [.ref (a + 1), .ref (a + 21), .ref (a + 41), .int 0, .ref (a + 61), .ref (a + 63), .ref (a + 64), .null, .null, .null, .null, .null, .null]))] ++ ctW J (a + 1) none w0) ++ ctW J (a + 21) none w0) ++ ctW J (a + 41) none w0) ++ [(a + 61, .inr (2, [.ref (a + 61 + 1), .int 0, .int 0, .int 0, .int 0, .int (-1 : Int32), .int 0])), (a + 61 + 1, .inl (J 2, 400, .inl (fun _ => 0)))]) ++ [(a + 63, .inr (3, [.int 0, .int 0, .int 0, .int 0, .int 0, .int 0, .int 0, .int 0, .int 0]))]) ++ ctW J (a + 64) none w0)) rfl rfl h1 h2 h3 h4
  clear h1 h2 h3 h4
  refine lv_aload_n hx hb dX1_init_70 rfl (lv_at hl 0 rfl) ?_
  refine gnew (C := RX5) (T := TX5) (N := 5) (ci := 4) (fs := [.int 0, .int 0, .int 0, .long 0, .null]) (h := a + 84) hx hb hts in_X5 tyX5 tyX5_ok hown q396 q397 q138 hE.1.1 rfl (dvX5) hI.2.2.1 (Nat.le_of_ble_eq_true rfl) (Nat.le_of_ble_eq_true rfl) dX1_init_71 (fun H h1 h2 h3 => ?_)
  replace hI := hI.new (ws' := ((((((([(a, .inr (0, [.ref (a + 1), .ref (a + 21), .ref (a + 41), .int 0, .ref (a + 61), .ref (a + 63), .ref (a + 64), .null, .null, .null, .null, .null, .null]))] ++ ctW J (a + 1) none w0) ++ ctW J (a + 21) none w0) ++ ctW J (a + 41) none w0) ++ [(a + 61, .inr (2, [.ref (a + 61 + 1), .int 0, .int 0, .int 0, .int 0, .int (-1 : Int32), .int 0])), (a + 61 + 1, .inl (J 2, 400, .inl (fun _ => 0)))]) ++ [(a + 63, .inr (3, [.int 0, .int 0, .int 0, .int 0, .int 0, .int 0, .int 0, .int 0, .int 0]))]) ++ ctW J (a + 64) none w0) ++ [(a + 84, .inr (4, [.int 0, .int 0, .int 0, .long 0, .null]))])) rfl rfl h1 h2 h3
  clear h1 h2 h3
  refine lv_dup hx hb dX1_init_74 rfl ?_
  refine lv_aload_n hx hb dX1_init_75 rfl (lv_at hl 0 rfl) ?_
  refine va_callv (va_runIN (As := [.ref a]) (rest := [.ref (a + 84), .ref a]) ⟨hx, hb, hml, hown, hts⟩ (mX5_init aK aV e0 a l D J z (a + 84) (Nat.le_trans hz (Nat.le_add_right _ _))) (⟨va_cnB 1 hts (lw_meth q400) rfl rfl rfl (hE.1.2.2.m 2 rfl) (hts _ q138) (by decide +kernel) ⟨Nat.le_of_ble_eq_true rfl, Nat.le_of_ble_eq_true rfl⟩, rfl, hts _ q399⟩) ⟨fun _ U g mk q => ⟨q.1, q.2.1, q.2.2.1, q.2.2.2.go (State.WarmedH.refl U) (fun _ _ _ => rfl)⟩, fun U hU hW => ⟨rfl, by rw [hU]; exact hI.2.2.1, by rw [hU]; exact hI.1 84 _ rfl, hE.go hW (fun q h1 h2 => by rw [hU]; exact hI.2.2.2.2.1 q h1 (fun h3 => h2 (Nat.le_trans hz h3)))⟩⟩ rfl rfl hl.1 rfl (lv_room (Nat.le_of_ble_eq_true rfl)) dX1_init_76 ⟨Nat.le_of_ble_eq_true rfl, Nat.le_of_ble_eq_true rfl⟩) hI.2.2.2 (fun q _ h => Nat.le_trans (Nat.le_add_right _ _) h) (fun q h => Nat.le_trans (Nat.le_add_right _ _) h) (fun u t H1 locs1 ht hvm hp hB hz1 hk1 hS => ?_)
  replace hI := hI.call (wr := (((((([(a, .inr (0, [.ref (a + 1), .ref (a + 21), .ref (a + 41), .int 0, .ref (a + 61), .ref (a + 63), .ref (a + 64), .null, .null, .null, .null, .null, .null]))] ++ ctW J (a + 1) none w0) ++ ctW J (a + 21) none w0) ++ ctW J (a + 41) none w0) ++ [(a + 61, .inr (2, [.ref (a + 61 + 1), .int 0, .int 0, .int 0, .int 0, .int (-1 : Int32), .int 0])), (a + 61 + 1, .inl (J 2, 400, .inl (fun _ => 0)))]) ++ [(a + 63, .inr (3, [.int 0, .int 0, .int 0, .int 0, .int 0, .int 0, .int 0, .int 0, .int 0]))]) ++ ctW J (a + 64) none w0)) (w1 := [(a + 84, .inr (4, [.int 0, .int 0, .int 0, .long 0, .ref a]))]) (ws' := ((((((([(a, .inr (0, [.ref (a + 1), .ref (a + 21), .ref (a + 41), .int 0, .ref (a + 61), .ref (a + 63), .ref (a + 64), .null, .null, .null, .null, .null, .null]))] ++ ctW J (a + 1) none w0) ++ ctW J (a + 21) none w0) ++ ctW J (a + 41) none w0) ++ [(a + 61, .inr (2, [.ref (a + 61 + 1), .int 0, .int 0, .int 0, .int 0, .int (-1 : Int32), .int 0])), (a + 61 + 1, .inl (J 2, 400, .inl (fun _ => 0)))]) ++ [(a + 63, .inr (3, [.int 0, .int 0, .int 0, .int 0, .int 0, .int 0, .int 0, .int 0, .int 0]))]) ++ ctW J (a + 64) none w0) ++ [(a + 84, .inr (4, [.int 0, .int 0, .int 0, .long 0, .ref a]))])) (b := a + 84) rfl rfl (by rw [← ht]; exact hB.1) CW.one (by rw [← ht]; exact hB.2) hk1 hS
  clear hk1 hS hB hz1 ht hp hvm
  clear t
  revert hI
  generalize H1 = H
  generalize locs1 = locs
  intro hI
  refine gputF hx hb hts in_X1 tyX1 tyX1_ok nmX1 hown hE.1.1 (hI.1 0 _ rfl) rfl 7 (by decide) q473 rfl hin rfl rfl rfl (Nat.le_of_ble_eq_true rfl) dX1_init_79 (fun H locs h1 h2 h3 h4 => ?_)
  replace hI := hI.put (P := 0) (ws' := ((((((([(a, .inr (0, [.ref (a + 1), .ref (a + 21), .ref (a + 41), .int 0, .ref (a + 61), .ref (a + 63), .ref (a + 64), .ref (a + 84), .null, .null, .null, .null, .null]))] ++ ctW J (a + 1) none w0) ++ ctW J (a + 21) none w0) ++ ctW J (a + 41) none w0) ++ [(a + 61, .inr (2, [.ref (a + 61 + 1), .int 0, .int 0, .int 0, .int 0, .int (-1 : Int32), .int 0])), (a + 61 + 1, .inl (J 2, 400, .inl (fun _ => 0)))]) ++ [(a + 63, .inr (3, [.int 0, .int 0, .int 0, .int 0, .int 0, .int 0, .int 0, .int 0, .int 0]))]) ++ ctW J (a + 64) none w0) ++ [(a + 84, .inr (4, [.int 0, .int 0, .int 0, .long 0, .ref a]))])) rfl rfl h1 h2 h3 h4
  clear h1 h2 h3 h4
  refine lv_aload_n hx hb dX1_init_82 rfl (lv_at hl 0 rfl) ?_
  refine gnew (C := RJ3) (T := TJ3) (N := 3) (ci := 6) (fs := [.int 0, .null, .int 0]) (h := a + 85) hx hb hts in_J3 tyJ3 tyJ3_ok hown q421 q422 q141 hE.1.1 rfl (dvJ3) hI.2.2.1 (Nat.le_of_ble_eq_true rfl) (Nat.le_of_ble_eq_true rfl) dX1_init_83 (fun H h1 h2 h3 => ?_)
  replace hI := hI.new (ws' := (((((((([(a, .inr (0, [.ref (a + 1), .ref (a + 21), .ref (a + 41), .int 0, .ref (a + 61), .ref (a + 63), .ref (a + 64), .ref (a + 84), .null, .null, .null, .null, .null]))] ++ ctW J (a + 1) none w0) ++ ctW J (a + 21) none w0) ++ ctW J (a + 41) none w0) ++ [(a + 61, .inr (2, [.ref (a + 61 + 1), .int 0, .int 0, .int 0, .int 0, .int (-1 : Int32), .int 0])), (a + 61 + 1, .inl (J 2, 400, .inl (fun _ => 0)))]) ++ [(a + 63, .inr (3, [.int 0, .int 0, .int 0, .int 0, .int 0, .int 0, .int 0, .int 0, .int 0]))]) ++ ctW J (a + 64) none w0) ++ [(a + 84, .inr (4, [.int 0, .int 0, .int 0, .long 0, .ref a]))]) ++ [(a + 85, .inr (6, [.int 0, .null, .int 0]))])) rfl rfl h1 h2 h3
  clear h1 h2 h3
  refine lv_dup hx hb dX1_init_86 rfl ?_
  refine va_callv (va_runI (As := []) (rest := [.ref (a + 85), .ref a]) ⟨hx, hb, hml, hown, hts⟩ (mJ3_init aK aV e0 l D J z (a + 85) (Nat.le_trans hz (Nat.le_add_right _ _))) (cwI 0 hts (lw_meth q425) rfl rfl rfl (hts _ q141) (hts _ q423) (hts _ q424) rfl (by decide +kernel) ⟨Nat.le_of_ble_eq_true rfl, Nat.le_of_ble_eq_true rfl⟩) ⟨fun _ U g mk q => ⟨q.1, q.2.1, q.2.2.1, q.2.2.2.go (State.WarmedH.refl U) (fun _ _ _ => rfl)⟩, fun U hU hW => ⟨rfl, by rw [hU]; exact hI.2.2.1, by rw [hU]; exact hI.1 85 _ rfl, hE.go hW (fun q h1 h2 => by rw [hU]; exact hI.2.2.2.2.1 q h1 (fun h3 => h2 (Nat.le_trans hz h3)))⟩⟩ rfl rfl hl.1 rfl (lv_room (Nat.le_of_ble_eq_true rfl)) dX1_init_87 ⟨Nat.le_of_ble_eq_true rfl, Nat.le_of_ble_eq_true rfl⟩) hI.2.2.2 (fun q _ h => Nat.le_trans (Nat.le_add_right _ _) h) (fun q h => Nat.le_trans (Nat.le_add_right _ _) h) (fun u t H1 locs1 ht hvm hp hB hz1 hk1 hS => ?_)
  replace hI := hI.call (wr := ((((((([(a, .inr (0, [.ref (a + 1), .ref (a + 21), .ref (a + 41), .int 0, .ref (a + 61), .ref (a + 63), .ref (a + 64), .ref (a + 84), .null, .null, .null, .null, .null]))] ++ ctW J (a + 1) none w0) ++ ctW J (a + 21) none w0) ++ ctW J (a + 41) none w0) ++ [(a + 61, .inr (2, [.ref (a + 61 + 1), .int 0, .int 0, .int 0, .int 0, .int (-1 : Int32), .int 0])), (a + 61 + 1, .inl (J 2, 400, .inl (fun _ => 0)))]) ++ [(a + 63, .inr (3, [.int 0, .int 0, .int 0, .int 0, .int 0, .int 0, .int 0, .int 0, .int 0]))]) ++ ctW J (a + 64) none w0) ++ [(a + 84, .inr (4, [.int 0, .int 0, .int 0, .long 0, .ref a]))])) (w1 := [(a + 85, .inr (6, [.int (0 : Int32), .ref e0, .int 0]))]) (ws' := (((((((([(a, .inr (0, [.ref (a + 1), .ref (a + 21), .ref (a + 41), .int 0, .ref (a + 61), .ref (a + 63), .ref (a + 64), .ref (a + 84), .null, .null, .null, .null, .null]))] ++ ctW J (a + 1) none w0) ++ ctW J (a + 21) none w0) ++ ctW J (a + 41) none w0) ++ [(a + 61, .inr (2, [.ref (a + 61 + 1), .int 0, .int 0, .int 0, .int 0, .int (-1 : Int32), .int 0])), (a + 61 + 1, .inl (J 2, 400, .inl (fun _ => 0)))]) ++ [(a + 63, .inr (3, [.int 0, .int 0, .int 0, .int 0, .int 0, .int 0, .int 0, .int 0, .int 0]))]) ++ ctW J (a + 64) none w0) ++ [(a + 84, .inr (4, [.int 0, .int 0, .int 0, .long 0, .ref a]))]) ++ [(a + 85, .inr (6, [.int (0 : Int32), .ref e0, .int 0]))])) (b := a + 85) rfl rfl (by rw [← ht]; exact hB.1) CW.one (by rw [← ht]; exact hB.2) hk1 hS
  clear hk1 hS hB hz1 ht hp hvm
  clear t
  revert hI
  generalize H1 = H
  generalize locs1 = locs
  intro hI
  refine gputF hx hb hts in_X1 tyX1 tyX1_ok nmX1 hown hE.1.1 (hI.1 0 _ rfl) rfl 8 (by decide) q474 rfl hin rfl rfl rfl (Nat.le_of_ble_eq_true rfl) dX1_init_90 (fun H locs h1 h2 h3 h4 => ?_)
  replace hI := hI.put (P := 0) (ws' := (((((((([(a, .inr (0, [.ref (a + 1), .ref (a + 21), .ref (a + 41), .int 0, .ref (a + 61), .ref (a + 63), .ref (a + 64), .ref (a + 84), .ref (a + 85), .null, .null, .null, .null]))] ++ ctW J (a + 1) none w0) ++ ctW J (a + 21) none w0) ++ ctW J (a + 41) none w0) ++ [(a + 61, .inr (2, [.ref (a + 61 + 1), .int 0, .int 0, .int 0, .int 0, .int (-1 : Int32), .int 0])), (a + 61 + 1, .inl (J 2, 400, .inl (fun _ => 0)))]) ++ [(a + 63, .inr (3, [.int 0, .int 0, .int 0, .int 0, .int 0, .int 0, .int 0, .int 0, .int 0]))]) ++ ctW J (a + 64) none w0) ++ [(a + 84, .inr (4, [.int 0, .int 0, .int 0, .long 0, .ref a]))]) ++ [(a + 85, .inr (6, [.int (0 : Int32), .ref e0, .int 0]))])) rfl rfl h1 h2 h3 h4
  clear h1 h2 h3 h4
  refine lv_aload_n hx hb dX1_init_93 rfl (lv_at hl 0 rfl) ?_
  refine gnew (C := RX6) (T := TX6) (N := 3) (ci := 5) (fs := [.null, .null, .null]) (h := a + 86) hx hb hts in_X6 tyX6 tyX6_ok hown q447 q448 q142 hE.1.1 rfl (dvX6) hI.2.2.1 (Nat.le_of_ble_eq_true rfl) (Nat.le_of_ble_eq_true rfl) dX1_init_94 (fun H h1 h2 h3 => ?_)
  replace hI := hI.new (ws' := ((((((((([(a, .inr (0, [.ref (a + 1), .ref (a + 21), .ref (a + 41), .int 0, .ref (a + 61), .ref (a + 63), .ref (a + 64), .ref (a + 84), .ref (a + 85), .null, .null, .null, .null]))] ++ ctW J (a + 1) none w0) ++ ctW J (a + 21) none w0) ++ ctW J (a + 41) none w0) ++ [(a + 61, .inr (2, [.ref (a + 61 + 1), .int 0, .int 0, .int 0, .int 0, .int (-1 : Int32), .int 0])), (a + 61 + 1, .inl (J 2, 400, .inl (fun _ => 0)))]) ++ [(a + 63, .inr (3, [.int 0, .int 0, .int 0, .int 0, .int 0, .int 0, .int 0, .int 0, .int 0]))]) ++ ctW J (a + 64) none w0) ++ [(a + 84, .inr (4, [.int 0, .int 0, .int 0, .long 0, .ref a]))]) ++ [(a + 85, .inr (6, [.int (0 : Int32), .ref e0, .int 0]))]) ++ [(a + 86, .inr (5, [.null, .null, .null]))])) rfl rfl h1 h2 h3
  clear h1 h2 h3
  refine lv_dup hx hb dX1_init_97 rfl ?_
  refine lv_aload_n hx hb dX1_init_98 rfl (lv_at hl 0 rfl) ?_
  refine va_callv (va_runIN (As := [.ref a]) (rest := [.ref (a + 86), .ref a]) ⟨hx, hb, hml, hown, hts⟩ (mX6_init aK aV e0 a l D J z (a + 86) (Nat.le_trans hz (Nat.le_add_right _ _))) (⟨va_cnB 1 hts (lw_meth q451) rfl rfl rfl (hE.1.2.2.m 3 rfl) (hts _ q142) (by decide +kernel) ⟨Nat.le_of_ble_eq_true rfl, Nat.le_of_ble_eq_true rfl⟩, rfl, hts _ q450⟩) ⟨fun _ U g mk q => ⟨q.1, q.2.1, q.2.2.1, q.2.2.2.go (State.WarmedH.refl U) (fun _ _ _ => rfl)⟩, fun U hU hW => ⟨rfl, by rw [hU]; exact hI.2.2.1, by rw [hU]; exact hI.1 86 _ rfl, hE.go hW (fun q h1 h2 => by rw [hU]; exact hI.2.2.2.2.1 q h1 (fun h3 => h2 (Nat.le_trans hz h3)))⟩⟩ rfl rfl hl.1 rfl (lv_room (Nat.le_of_ble_eq_true rfl)) dX1_init_99 ⟨Nat.le_of_ble_eq_true rfl, Nat.le_of_ble_eq_true rfl⟩) hI.2.2.2 (fun q _ h => Nat.le_trans (Nat.le_add_right _ _) h) (fun q h => Nat.le_trans (Nat.le_add_right _ _) h) (fun u t H1 locs1 ht hvm hp hB hz1 hk1 hS => ?_)
  replace hI := hI.call (wr := (((((((([(a, .inr (0, [.ref (a + 1), .ref (a + 21), .ref (a + 41), .int 0, .ref (a + 61), .ref (a + 63), .ref (a + 64), .ref (a + 84), .ref (a + 85), .null, .null, .null, .null]))] ++ ctW J (a + 1) none w0) ++ ctW J (a + 21) none w0) ++ ctW J (a + 41) none w0) ++ [(a + 61, .inr (2, [.ref (a + 61 + 1), .int 0, .int 0, .int 0, .int 0, .int (-1 : Int32), .int 0])), (a + 61 + 1, .inl (J 2, 400, .inl (fun _ => 0)))]) ++ [(a + 63, .inr (3, [.int 0, .int 0, .int 0, .int 0, .int 0, .int 0, .int 0, .int 0, .int 0]))]) ++ ctW J (a + 64) none w0) ++ [(a + 84, .inr (4, [.int 0, .int 0, .int 0, .long 0, .ref a]))]) ++ [(a + 85, .inr (6, [.int (0 : Int32), .ref e0, .int 0]))])) (w1 := [(a + 86, .inr (5, [.ref (a + 86 + 1), .ref (a + 86 + 2), .ref a])), (a + 86 + 1, .inl (J 0, 126, .inl (fun _ => 0))), (a + 86 + 2, .inl (J 0, 126, .inl (fun _ => 0)))]) (ws' := ((((((((([(a, .inr (0, [.ref (a + 1), .ref (a + 21), .ref (a + 41), .int 0, .ref (a + 61), .ref (a + 63), .ref (a + 64), .ref (a + 84), .ref (a + 85), .null, .null, .null, .null]))] ++ ctW J (a + 1) none w0) ++ ctW J (a + 21) none w0) ++ ctW J (a + 41) none w0) ++ [(a + 61, .inr (2, [.ref (a + 61 + 1), .int 0, .int 0, .int 0, .int 0, .int (-1 : Int32), .int 0])), (a + 61 + 1, .inl (J 2, 400, .inl (fun _ => 0)))]) ++ [(a + 63, .inr (3, [.int 0, .int 0, .int 0, .int 0, .int 0, .int 0, .int 0, .int 0, .int 0]))]) ++ ctW J (a + 64) none w0) ++ [(a + 84, .inr (4, [.int 0, .int 0, .int 0, .long 0, .ref a]))]) ++ [(a + 85, .inr (6, [.int (0 : Int32), .ref e0, .int 0]))]) ++ [(a + 86, .inr (5, [.ref (a + 86 + 1), .ref (a + 86 + 2), .ref a])), (a + 86 + 1, .inl (J 0, 126, .inl (fun _ => 0))), (a + 86 + 2, .inl (J 0, 126, .inl (fun _ => 0)))])) (b := a + 86) rfl rfl (by rw [← ht]; exact hB.1) (by intro i q h; match i, h with | 0, h => cases h; rfl | 1, h => cases h; rfl | 2, h => cases h; rfl | i + 3, h => cases h) (by rw [← ht]; exact hB.2) hk1 hS
  clear hk1 hS hB hz1 ht hp hvm
  clear t
  revert hI
  generalize H1 = H
  generalize locs1 = locs
  intro hI
  refine gputF hx hb hts in_X1 tyX1 tyX1_ok nmX1 hown hE.1.1 (hI.1 0 _ rfl) rfl 9 (by decide) q475 rfl hin rfl rfl rfl (Nat.le_of_ble_eq_true rfl) dX1_init_102 (fun H locs h1 h2 h3 h4 => ?_)
  replace hI := hI.put (P := 0) (ws' := ((((((((([(a, .inr (0, [.ref (a + 1), .ref (a + 21), .ref (a + 41), .int 0, .ref (a + 61), .ref (a + 63), .ref (a + 64), .ref (a + 84), .ref (a + 85), .ref (a + 86), .null, .null, .null]))] ++ ctW J (a + 1) none w0) ++ ctW J (a + 21) none w0) ++ ctW J (a + 41) none w0) ++ [(a + 61, .inr (2, [.ref (a + 61 + 1), .int 0, .int 0, .int 0, .int 0, .int (-1 : Int32), .int 0])), (a + 61 + 1, .inl (J 2, 400, .inl (fun _ => 0)))]) ++ [(a + 63, .inr (3, [.int 0, .int 0, .int 0, .int 0, .int 0, .int 0, .int 0, .int 0, .int 0]))]) ++ ctW J (a + 64) none w0) ++ [(a + 84, .inr (4, [.int 0, .int 0, .int 0, .long 0, .ref a]))]) ++ [(a + 85, .inr (6, [.int (0 : Int32), .ref e0, .int 0]))]) ++ [(a + 86, .inr (5, [.ref (a + 86 + 1), .ref (a + 86 + 2), .ref a])), (a + 86 + 1, .inl (J 0, 126, .inl (fun _ => 0))), (a + 86 + 2, .inl (J 0, 126, .inl (fun _ => 0)))])) rfl rfl h1 h2 h3 h4
  clear h1 h2 h3 h4
  refine lv_aload_n hx hb dX1_init_105 rfl (lv_at hl 0 rfl) ?_
  refine lv_bipush (v := (8 : Int32)) hx hb dX1_init_106 (by decide) ?_
  refine gnewa (D := D) (cl := vwC) (atype := .int) (ty := .int) (cA := J 0) (a0 := (8, .inl (fun _ => 0))) (h := a + 89) hx hb hts q318 rfl (hE.1.1.2 0 _ rfl).2 (fun _ => rfl) (by decide) rfl (by decide) (hI.2.2.1) (Nat.le_of_ble_eq_true rfl) (Nat.le_of_ble_eq_true rfl) dX1_init_108 (fun H h1 h2 h3 => ?_)
  replace hI := hI.new (ws' := (((((((((([(a, .inr (0, [.ref (a + 1), .ref (a + 21), .ref (a + 41), .int 0, .ref (a + 61), .ref (a + 63), .ref (a + 64), .ref (a + 84), .ref (a + 85), .ref (a + 86), .null, .null, .null]))] ++ ctW J (a + 1) none w0) ++ ctW J (a + 21) none w0) ++ ctW J (a + 41) none w0) ++ [(a + 61, .inr (2, [.ref (a + 61 + 1), .int 0, .int 0, .int 0, .int 0, .int (-1 : Int32), .int 0])), (a + 61 + 1, .inl (J 2, 400, .inl (fun _ => 0)))]) ++ [(a + 63, .inr (3, [.int 0, .int 0, .int 0, .int 0, .int 0, .int 0, .int 0, .int 0, .int 0]))]) ++ ctW J (a + 64) none w0) ++ [(a + 84, .inr (4, [.int 0, .int 0, .int 0, .long 0, .ref a]))]) ++ [(a + 85, .inr (6, [.int (0 : Int32), .ref e0, .int 0]))]) ++ [(a + 86, .inr (5, [.ref (a + 86 + 1), .ref (a + 86 + 2), .ref a])), (a + 86 + 1, .inl (J 0, 126, .inl (fun _ => 0))), (a + 86 + 2, .inl (J 0, 126, .inl (fun _ => 0)))]) ++ [(a + 89, .inl (J 0, 8, .inl (fun _ => 0)))])) rfl rfl h1 h2 h3
  clear h1 h2 h3
  refine gputF hx hb hts in_X1 tyX1 tyX1_ok nmX1 hown hE.1.1 (hI.1 0 _ rfl) rfl 10 (by decide) q476 rfl hin rfl rfl rfl (Nat.le_of_ble_eq_true rfl) dX1_init_110 (fun H locs h1 h2 h3 h4 => ?_)
  replace hI := hI.put (P := 0) (ws' := (((((((((([(a, .inr (0, [.ref (a + 1), .ref (a + 21), .ref (a + 41), .int 0, .ref (a + 61), .ref (a + 63), .ref (a + 64), .ref (a + 84), .ref (a + 85), .ref (a + 86), .ref (a + 89), .null, .null]))] ++ ctW J (a + 1) none w0) ++ ctW J (a + 21) none w0) ++ ctW J (a + 41) none w0) ++ [(a + 61, .inr (2, [.ref (a + 61 + 1), .int 0, .int 0, .int 0, .int 0, .int (-1 : Int32), .int 0])), (a + 61 + 1, .inl (J 2, 400, .inl (fun _ => 0)))]) ++ [(a + 63, .inr (3, [.int 0, .int 0, .int 0, .int 0, .int 0, .int 0, .int 0, .int 0, .int 0]))]) ++ ctW J (a + 64) none w0) ++ [(a + 84, .inr (4, [.int 0, .int 0, .int 0, .long 0, .ref a]))]) ++ [(a + 85, .inr (6, [.int (0 : Int32), .ref e0, .int 0]))]) ++ [(a + 86, .inr (5, [.ref (a + 86 + 1), .ref (a + 86 + 2), .ref a])), (a + 86 + 1, .inl (J 0, 126, .inl (fun _ => 0))), (a + 86 + 2, .inl (J 0, 126, .inl (fun _ => 0)))]) ++ [(a + 89, .inl (J 0, 8, .inl (fun _ => 0)))])) rfl rfl h1 h2 h3 h4
  clear h1 h2 h3 h4
  refine lv_aload_n hx hb dX1_init_113 rfl (lv_at hl 0 rfl) ?_
  refine lv_sipush (v := (576 : Int32)) hx hb dX1_init_114 (by decide) ?_
  refine gnewa (D := D) (cl := vwC) (atype := .int) (ty := .int) (cA := J 0) (a0 := (576, .inl (fun _ => 0))) (h := a + 90) hx hb hts q318 rfl (hE.1.1.2 0 _ rfl).2 (fun _ => rfl) (by decide) rfl (by decide) (hI.2.2.1) (Nat.le_of_ble_eq_true rfl) (Nat.le_of_ble_eq_true rfl) dX1_init_117 (fun H h1 h2 h3 => ?_)
  replace hI := hI.new (ws' := (((((((((([(a, .inr (0, [.ref (a + 1), .ref (a + 21), .ref (a + 41), .int 0, .ref (a + 61), .ref (a + 63), .ref (a + 64), .ref (a + 84), .ref (a + 85), .ref (a + 86), .ref (a + 89), .null, .null]))] ++ ctW J (a + 1) none w0) ++ ctW J (a + 21) none w0) ++ ctW J (a + 41) none w0) ++ [(a + 61, .inr (2, [.ref (a + 61 + 1), .int 0, .int 0, .int 0, .int 0, .int (-1 : Int32), .int 0])), (a + 61 + 1, .inl (J 2, 400, .inl (fun _ => 0)))]) ++ [(a + 63, .inr (3, [.int 0, .int 0, .int 0, .int 0, .int 0, .int 0, .int 0, .int 0, .int 0]))]) ++ ctW J (a + 64) none w0) ++ [(a + 84, .inr (4, [.int 0, .int 0, .int 0, .long 0, .ref a]))]) ++ [(a + 85, .inr (6, [.int (0 : Int32), .ref e0, .int 0]))]) ++ [(a + 86, .inr (5, [.ref (a + 86 + 1), .ref (a + 86 + 2), .ref a])), (a + 86 + 1, .inl (J 0, 126, .inl (fun _ => 0))), (a + 86 + 2, .inl (J 0, 126, .inl (fun _ => 0)))]) ++ [(a + 89, .inl (J 0, 8, .inl (fun _ => 0))), (a + 90, .inl (J 0, 576, .inl (fun _ => 0)))])) rfl rfl h1 h2 h3
  clear h1 h2 h3
  refine gputF hx hb hts in_X1 tyX1 tyX1_ok nmX1 hown hE.1.1 (hI.1 0 _ rfl) rfl 11 (by decide) q477 rfl hin rfl rfl rfl (Nat.le_of_ble_eq_true rfl) dX1_init_119 (fun H locs h1 h2 h3 h4 => ?_)
  replace hI := hI.put (P := 0) (ws' := (((((((((([(a, .inr (0, [.ref (a + 1), .ref (a + 21), .ref (a + 41), .int 0, .ref (a + 61), .ref (a + 63), .ref (a + 64), .ref (a + 84), .ref (a + 85), .ref (a + 86), .ref (a + 89), .ref (a + 90), .null]))] ++ ctW J (a + 1) none w0) ++ ctW J (a + 21) none w0) ++ ctW J (a + 41) none w0) ++ [(a + 61, .inr (2, [.ref (a + 61 + 1), .int 0, .int 0, .int 0, .int 0, .int (-1 : Int32), .int 0])), (a + 61 + 1, .inl (J 2, 400, .inl (fun _ => 0)))]) ++ [(a + 63, .inr (3, [.int 0, .int 0, .int 0, .int 0, .int 0, .int 0, .int 0, .int 0, .int 0]))]) ++ ctW J (a + 64) none w0) ++ [(a + 84, .inr (4, [.int 0, .int 0, .int 0, .long 0, .ref a]))]) ++ [(a + 85, .inr (6, [.int (0 : Int32), .ref e0, .int 0]))]) ++ [(a + 86, .inr (5, [.ref (a + 86 + 1), .ref (a + 86 + 2), .ref a])), (a + 86 + 1, .inl (J 0, 126, .inl (fun _ => 0))), (a + 86 + 2, .inl (J 0, 126, .inl (fun _ => 0)))]) ++ [(a + 89, .inl (J 0, 8, .inl (fun _ => 0))), (a + 90, .inl (J 0, 576, .inl (fun _ => 0)))])) rfl rfl h1 h2 h3 h4
  clear h1 h2 h3 h4
  refine lv_aload_n hx hb dX1_init_122 rfl (lv_at hl 0 rfl) ?_
  refine gnew (C := RX2) (T := TX2) (N := 29) (ci := 1) (fs := [.int 0, .int 0, .int 0, .int 0, .int 0, .int 0, .int 0, .int 0, .int 0, .null, .null, .null, .null, .null, .null, .null, .null, .null, .null, .null, .null, .null, .null, .null, .null, .null, .null, .null, .null]) (h := a + 91) hx hb hts in_X2 tyX2 tyX2_ok hown q185 q186 q134 hE.1.1 rfl (dvX2) hI.2.2.1 (Nat.le_of_ble_eq_true rfl) (Nat.le_of_ble_eq_true rfl) dX1_init_123 (fun H h1 h2 h3 => ?_)
  replace hI := hI.new (ws' := (((((((((([(a, .inr (0, [.ref (a + 1), .ref (a + 21), .ref (a + 41), .int 0, .ref (a + 61), .ref (a + 63), .ref (a + 64), .ref (a + 84), .ref (a + 85), .ref (a + 86), .ref (a + 89), .ref (a + 90), .null]))] ++ ctW J (a + 1) none w0) ++ ctW J (a + 21) none w0) ++ ctW J (a + 41) none w0) ++ [(a + 61, .inr (2, [.ref (a + 61 + 1), .int 0, .int 0, .int 0, .int 0, .int (-1 : Int32), .int 0])), (a + 61 + 1, .inl (J 2, 400, .inl (fun _ => 0)))]) ++ [(a + 63, .inr (3, [.int 0, .int 0, .int 0, .int 0, .int 0, .int 0, .int 0, .int 0, .int 0]))]) ++ ctW J (a + 64) none w0) ++ [(a + 84, .inr (4, [.int 0, .int 0, .int 0, .long 0, .ref a]))]) ++ [(a + 85, .inr (6, [.int (0 : Int32), .ref e0, .int 0]))]) ++ [(a + 86, .inr (5, [.ref (a + 86 + 1), .ref (a + 86 + 2), .ref a])), (a + 86 + 1, .inl (J 0, 126, .inl (fun _ => 0))), (a + 86 + 2, .inl (J 0, 126, .inl (fun _ => 0)))]) ++ [(a + 89, .inl (J 0, 8, .inl (fun _ => 0))), (a + 90, .inl (J 0, 576, .inl (fun _ => 0))), (a + 91, .inr (1, [.int 0, .int 0, .int 0, .int 0, .int 0, .int 0, .int 0, .int 0, .int 0, .null, .null, .null, .null, .null, .null, .null, .null, .null, .null, .null, .null, .null, .null, .null, .null, .null, .null, .null, .null]))])) rfl rfl h1 h2 h3
  clear h1 h2 h3
  refine lv_dup hx hb dX1_init_126 rfl ?_
  refine va_callv (va_runI (As := []) (rest := [.ref (a + 91), .ref a]) ⟨hx, hb, hml, hown, hts⟩ (mX2_init aK aV e0 l D J z (a + 91) (Nat.le_trans hz (Nat.le_add_right _ _))) (cwI 0 hts (lw_meth q189) rfl rfl rfl (hts _ q134) (hts _ q187) (hts _ q188) rfl (by decide +kernel) ⟨Nat.le_of_ble_eq_true rfl, Nat.le_of_ble_eq_true rfl⟩) ⟨fun _ U g mk q => ⟨q.1, q.2.1, q.2.2.1, q.2.2.2.go (State.WarmedH.refl U) (fun _ _ _ => rfl)⟩, fun U hU hW => ⟨rfl, by rw [hU]; exact hI.2.2.1, by rw [hU]; exact hI.1 91 _ rfl, hE.go hW (fun q h1 h2 => by rw [hU]; exact hI.2.2.2.2.1 q h1 (fun h3 => h2 (Nat.le_trans hz h3)))⟩⟩ rfl rfl hl.1 rfl (lv_room (Nat.le_of_ble_eq_true rfl)) dX1_init_127 ⟨Nat.le_of_ble_eq_true rfl, Nat.le_of_ble_eq_true rfl⟩) hI.2.2.2 (fun q _ h => Nat.le_trans (Nat.le_add_right _ _) h) (fun q h => Nat.le_trans (Nat.le_add_right _ _) h) (fun u t H1 locs1 ht hvm hp hB hz1 hk1 hS => ?_)
  replace hI := hI.call (wr := (((((((((([(a, .inr (0, [.ref (a + 1), .ref (a + 21), .ref (a + 41), .int 0, .ref (a + 61), .ref (a + 63), .ref (a + 64), .ref (a + 84), .ref (a + 85), .ref (a + 86), .ref (a + 89), .ref (a + 90), .null]))] ++ ctW J (a + 1) none w0) ++ ctW J (a + 21) none w0) ++ ctW J (a + 41) none w0) ++ [(a + 61, .inr (2, [.ref (a + 61 + 1), .int 0, .int 0, .int 0, .int 0, .int (-1 : Int32), .int 0])), (a + 61 + 1, .inl (J 2, 400, .inl (fun _ => 0)))]) ++ [(a + 63, .inr (3, [.int 0, .int 0, .int 0, .int 0, .int 0, .int 0, .int 0, .int 0, .int 0]))]) ++ ctW J (a + 64) none w0) ++ [(a + 84, .inr (4, [.int 0, .int 0, .int 0, .long 0, .ref a]))]) ++ [(a + 85, .inr (6, [.int (0 : Int32), .ref e0, .int 0]))]) ++ [(a + 86, .inr (5, [.ref (a + 86 + 1), .ref (a + 86 + 2), .ref a])), (a + 86 + 1, .inl (J 0, 126, .inl (fun _ => 0))), (a + 86 + 2, .inl (J 0, 126, .inl (fun _ => 0)))]) ++ [(a + 89, .inl (J 0, 8, .inl (fun _ => 0))), (a + 90, .inl (J 0, 576, .inl (fun _ => 0)))])) (w1 := ctW J (a + 91) none w0) (ws' := ((((((((((([(a, .inr (0, [.ref (a + 1), .ref (a + 21), .ref (a + 41), .int 0, .ref (a + 61), .ref (a + 63), .ref (a + 64), .ref (a + 84), .ref (a + 85), .ref (a + 86), .ref (a + 89), .ref (a + 90), .null]))] ++ ctW J (a + 1) none w0) ++ ctW J (a + 21) none w0) ++ ctW J (a + 41) none w0) ++ [(a + 61, .inr (2, [.ref (a + 61 + 1), .int 0, .int 0, .int 0, .int 0, .int (-1 : Int32), .int 0])), (a + 61 + 1, .inl (J 2, 400, .inl (fun _ => 0)))]) ++ [(a + 63, .inr (3, [.int 0, .int 0, .int 0, .int 0, .int 0, .int 0, .int 0, .int 0, .int 0]))]) ++ ctW J (a + 64) none w0) ++ [(a + 84, .inr (4, [.int 0, .int 0, .int 0, .long 0, .ref a]))]) ++ [(a + 85, .inr (6, [.int (0 : Int32), .ref e0, .int 0]))]) ++ [(a + 86, .inr (5, [.ref (a + 86 + 1), .ref (a + 86 + 2), .ref a])), (a + 86 + 1, .inl (J 0, 126, .inl (fun _ => 0))), (a + 86 + 2, .inl (J 0, 126, .inl (fun _ => 0)))]) ++ [(a + 89, .inl (J 0, 8, .inl (fun _ => 0))), (a + 90, .inl (J 0, 576, .inl (fun _ => 0)))]) ++ ctW J (a + 91) none w0)) (b := a + 91) rfl rfl (by rw [← ht]; exact hB.1) (fun i q h => (ctW_at i q h).1) (by rw [← ht]; exact hB.2) hk1 hS
  clear hk1 hS hB hz1 ht hp hvm
  clear t
  revert hI
  generalize H1 = H
  generalize locs1 = locs
  intro hI
  refine gputF hx hb hts in_X1 tyX1 tyX1_ok nmX1 hown hE.1.1 (hI.1 0 _ rfl) rfl 12 (by decide) q478 rfl hin rfl rfl rfl (Nat.le_of_ble_eq_true rfl) dX1_init_130 (fun H locs h1 h2 h3 h4 => ?_)
  replace hI := hI.put (P := 0) (ws' := ((((((((((([(a, .inr (0, [.ref (a + 1), .ref (a + 21), .ref (a + 41), .int 0, .ref (a + 61), .ref (a + 63), .ref (a + 64), .ref (a + 84), .ref (a + 85), .ref (a + 86), .ref (a + 89), .ref (a + 90), .ref (a + 91)]))] ++ ctW J (a + 1) none w0) ++ ctW J (a + 21) none w0) ++ ctW J (a + 41) none w0) ++ [(a + 61, .inr (2, [.ref (a + 61 + 1), .int 0, .int 0, .int 0, .int 0, .int (-1 : Int32), .int 0])), (a + 61 + 1, .inl (J 2, 400, .inl (fun _ => 0)))]) ++ [(a + 63, .inr (3, [.int 0, .int 0, .int 0, .int 0, .int 0, .int 0, .int 0, .int 0, .int 0]))]) ++ ctW J (a + 64) none w0) ++ [(a + 84, .inr (4, [.int 0, .int 0, .int 0, .long 0, .ref a]))]) ++ [(a + 85, .inr (6, [.int (0 : Int32), .ref e0, .int 0]))]) ++ [(a + 86, .inr (5, [.ref (a + 86 + 1), .ref (a + 86 + 2), .ref a])), (a + 86 + 1, .inl (J 0, 126, .inl (fun _ => 0))), (a + 86 + 2, .inl (J 0, 126, .inl (fun _ => 0)))]) ++ [(a + 89, .inl (J 0, 8, .inl (fun _ => 0))), (a + 90, .inl (J 0, 576, .inl (fun _ => 0)))]) ++ ctW J (a + 91) none w0)) rfl rfl h1 h2 h3 h4
  clear h1 h2 h3 h4
  exact W.vret hx hb B.returns (fun t ht hW => ⟨⟨(), rfl, trivial, by rw [ht]; exact hI.1, by rw [ht]; exact hI.2.2.1⟩, hI.2.2.2.F ht⟩) hI.2.2.2.2.2 dX1_init_133 B.notSynchronized

set_option maxHeartbeats 4000000 in
set_option maxRecDepth 20000 in
theorem mX7_init (aK aV : Nat → Nat) (e0 : Nat) : MKc yX7_init cX7_init 2 1 40 10 7758 (ENM aK aV) vwT (fun a => []) (.inr (0, [.int 0, .null, .null, .int 0, .null, .null, .int 0, .null, .int 0, .int 0, .int 0, .int 0, .int 0, .int 0, .null, .int 0, .int 0, .int 0, .int 0, .int 0, .null, .null, .null, .null])) (fun J a => [(a, .inr (0, [.int 0, .ref (a + 1), .ref (a + 2), .int 0, .ref (a + 3), .ref (a + 4), .int 0, .ref (a + 5), .int 0, .int 0, .int 0, .int 0, .int (-1 : Int32), .int 0, .ref (a + 6), .int 0, .int 0, .int 0, .int 0, .int 0, .ref (a + 7), .ref (a + 8), .ref (a + 9), .ref (a + 10)])), (a + 1, .inl (J 0, 781, .inl (upd (upd (upd (upd (upd (upd (upd (fun _ => 0) 1 (-1 : Int32)) 7 (1 : Int32)) 10 (1 : Int32)) 11 (2 : Int32)) 12 (2 : Int32)) 13 (2 : Int32)) 14 (2 : Int32)))), (a + 2, .inl (J 0, 781, .inl (fun _ => 0))), (a + 3, .inl (J 0, 381, .inl (fun _ => 0))), (a + 4, .inl (J 0, 4572, .inl (fun _ => 0))), (a + 5, .inl (J 0, 400, .inl (fun _ => 0))), (a + 6, .inl (J 0, 7, .inl (fun _ => 0))), (a + 7, .inl (J 1, 126, .inl (fun _ => 0))), (a + 8, .inl (J 0, 126, .inl (fun _ => 0))), (a + 9, .inl (J 0, 576, .inl (fun _ => 0))), (a + 10, .inl (J 0, 8, .inl (fun _ => 0)))]) := by
  intro l D J z a hz
  refine Met.ofW (cc := cX7_init) (maxL := 2) (ret := none) (by decide) rfl ?_
  intro p e s m args below meth c s₁ B hml hv
  obtain ⟨rfl, hsz, hat, hE⟩ := hv
  have hts := atoms_spec (ws := ws_ yX7_init cX7_init 2 none) B.pre
  have hts : ∀ w ∈ lw_all, w.before _ s = true := fun w h => hts w (List.mem_cons_of_mem _ h)
  have hown : s.vm.findClass RX7 = some m.cls := findClass_of_methodNamed B.named
  have hin : meth.name = "<init>" := (name_of_methodNamed B.named B.method).1
  have hl := lv_entry [.ref a] (n := 2) (Nat.le_of_ble_eq_true rfl)
  rw [lg_entry_eq]
  generalize (lg_sl [.ref a] ++ List.replicate (2 - (lg_sl [.ref a]).length) Slot.unset).toArray = ls at hl ⊢
  have hl : lv_has ls 2 [(0, .ref a)] := hl
  have hx := B.exec
  have hb := B.bytes
  have hI : IN D vwT a [(a, .inr (0, [.int 0, .null, .null, .int 0, .null, .null, .int 0, .null, .int 0, .int 0, .int 0, .int 0, .int 0, .int 0, .null, .int 0, .int 0, .int 0, .int 0, .int 0, .null, .null, .null, .null]))] s s.heap [] := ⟨va_P1 hat, CW.one, hsz, va_S.rf⟩
  obtain ⟨H, eH⟩ : ∃ H, H = s.heap := ⟨_, rfl⟩
  obtain ⟨locs, eL⟩ : ∃ L : List Loc, L = [] := ⟨_, rfl⟩
  rw [← eH, ← eL] at hI ⊢
  refine lv_aload_n hx hb dX7_init_0 rfl (lv_at hl 0 rfl) ?_
  refine W.objInit hx hb hown (hts _ q2099) (hts _ q183) (hts _ q184) rfl (by rw [hml]; exact hl.1) rfl dX7_init_1 (Nat.le_of_ble_eq_true rfl) (Nat.le_of_ble_eq_true rfl) ?_
  refine W.eq (g2 := F0 m 4 ls []) rfl ?_
  refine lv_aload_n hx hb dX7_init_4 rfl (lv_at hl 0 rfl) ?_
  refine lv_sipush (v := (781 : Int32)) hx hb dX7_init_5 (by decide) ?_
  refine gnewa (D := D) (cl := vwT) (atype := .int) (ty := .int) (cA := J 0) (a0 := (781, .inl (fun _ => 0))) (h := a + 1) hx hb hts q318 rfl (hE.1.2 0 _ rfl).2 (fun _ => rfl) (by decide) rfl (by decide) (hI.2.2.1) (Nat.le_of_ble_eq_true rfl) (Nat.le_of_ble_eq_true rfl) dX7_init_8 (fun H h1 h2 h3 => ?_)
  replace hI := hI.new (ws' := [(a, .inr (0, [.int 0, .null, .null, .int 0, .null, .null, .int 0, .null, .int 0, .int 0, .int 0, .int 0, .int 0, .int 0, .null, .int 0, .int 0, .int 0, .int 0, .int 0, .null, .null, .null, .null])), (a + 1, .inl (J 0, 781, .inl (fun _ => 0)))]) rfl rfl h1 h2 h3
  clear h1 h2 h3
  refine gputF hx hb hts in_X7 tyX7 tyX7_ok nmX7 hown hE.1 (hI.1 0 _ rfl) rfl 1 (by decide) q2101 rfl hin rfl rfl rfl (Nat.le_of_ble_eq_true rfl) dX7_init_10 (fun H locs h1 h2 h3 h4 => ?_)
  replace hI := hI.put (P := 0) (ws' := [(a, .inr (0, [.int 0, .ref (a + 1), .null, .int 0, .null, .null, .int 0, .null, .int 0, .int 0, .int 0, .int 0, .int 0, .int 0, .null, .int 0, .int 0, .int 0, .int 0, .int 0, .null, .null, .null, .null])), (a + 1, .inl (J 0, 781, .inl (fun _ => 0)))]) rfl rfl h1 h2 h3 h4
  clear h1 h2 h3 h4
  refine lv_aload_n hx hb dX7_init_13 rfl (lv_at hl 0 rfl) ?_
  refine lv_sipush (v := (781 : Int32)) hx hb dX7_init_14 (by decide) ?_
  refine gnewa (D := D) (cl := vwT) (atype := .int) (ty := .int) (cA := J 0) (a0 := (781, .inl (fun _ => 0))) (h := a + 2) hx hb hts q318 rfl (hE.1.2 0 _ rfl).2 (fun _ => rfl) (by decide) rfl (by decide) (hI.2.2.1) (Nat.le_of_ble_eq_true rfl) (Nat.le_of_ble_eq_true rfl) dX7_init_17 (fun H h1 h2 h3 => ?_)
  replace hI := hI.new (ws' := [(a, .inr (0, [.int 0, .ref (a + 1), .null, .int 0, .null, .null, .int 0, .null, .int 0, .int 0, .int 0, .int 0, .int 0, .int 0, .null, .int 0, .int 0, .int 0, .int 0, .int 0, .null, .null, .null, .null])), (a + 1, .inl (J 0, 781, .inl (fun _ => 0))), (a + 2, .inl (J 0, 781, .inl (fun _ => 0)))]) rfl rfl h1 h2 h3
  clear h1 h2 h3
  refine gputF hx hb hts in_X7 tyX7 tyX7_ok nmX7 hown hE.1 (hI.1 0 _ rfl) rfl 2 (by decide) q2102 rfl hin rfl rfl rfl (Nat.le_of_ble_eq_true rfl) dX7_init_19 (fun H locs h1 h2 h3 h4 => ?_)
  replace hI := hI.put (P := 0) (ws' := [(a, .inr (0, [.int 0, .ref (a + 1), .ref (a + 2), .int 0, .null, .null, .int 0, .null, .int 0, .int 0, .int 0, .int 0, .int 0, .int 0, .null, .int 0, .int 0, .int 0, .int 0, .int 0, .null, .null, .null, .null])), (a + 1, .inl (J 0, 781, .inl (fun _ => 0))), (a + 2, .inl (J 0, 781, .inl (fun _ => 0)))]) rfl rfl h1 h2 h3 h4
  clear h1 h2 h3 h4
  refine lv_aload_n hx hb dX7_init_22 rfl (lv_at hl 0 rfl) ?_
  refine lv_sipush (v := (381 : Int32)) hx hb dX7_init_23 (by decide) ?_
  refine gnewa (D := D) (cl := vwT) (atype := .int) (ty := .int) (cA := J 0) (a0 := (381, .inl (fun _ => 0))) (h := a + 3) hx hb hts q318 rfl (hE.1.2 0 _ rfl).2 (fun _ => rfl) (by decide) rfl (by decide) (hI.2.2.1) (Nat.le_of_ble_eq_true rfl) (Nat.le_of_ble_eq_true rfl) dX7_init_26 (fun H h1 h2 h3 => ?_)
  replace hI := hI.new (ws' := [(a, .inr (0, [.int 0, .ref (a + 1), .ref (a + 2), .int 0, .null, .null, .int 0, .null, .int 0, .int 0, .int 0, .int 0, .int 0, .int 0, .null, .int 0, .int 0, .int 0, .int 0, .int 0, .null, .null, .null, .null])), (a + 1, .inl (J 0, 781, .inl (fun _ => 0))), (a + 2, .inl (J 0, 781, .inl (fun _ => 0))), (a + 3, .inl (J 0, 381, .inl (fun _ => 0)))]) rfl rfl h1 h2 h3
  clear h1 h2 h3
  refine gputF hx hb hts in_X7 tyX7 tyX7_ok nmX7 hown hE.1 (hI.1 0 _ rfl) rfl 4 (by decide) q2104 rfl hin rfl rfl rfl (Nat.le_of_ble_eq_true rfl) dX7_init_28 (fun H locs h1 h2 h3 h4 => ?_)
  replace hI := hI.put (P := 0) (ws' := [(a, .inr (0, [.int 0, .ref (a + 1), .ref (a + 2), .int 0, .ref (a + 3), .null, .int 0, .null, .int 0, .int 0, .int 0, .int 0, .int 0, .int 0, .null, .int 0, .int 0, .int 0, .int 0, .int 0, .null, .null, .null, .null])), (a + 1, .inl (J 0, 781, .inl (fun _ => 0))), (a + 2, .inl (J 0, 781, .inl (fun _ => 0))), (a + 3, .inl (J 0, 381, .inl (fun _ => 0)))]) rfl rfl h1 h2 h3 h4
  clear h1 h2 h3 h4
  refine lv_aload_n hx hb dX7_init_31 rfl (lv_at hl 0 rfl) ?_
  refine lv_sipush (v := (4572 : Int32)) hx hb dX7_init_32 (by decide) ?_
  refine gnewa (D := D) (cl := vwT) (atype := .int) (ty := .int) (cA := J 0) (a0 := (4572, .inl (fun _ => 0))) (h := a + 4) hx hb hts q318 rfl (hE.1.2 0 _ rfl).2 (fun _ => rfl) (by decide) rfl (by decide) (hI.2.2.1) (Nat.le_of_ble_eq_true rfl) (Nat.le_of_ble_eq_true rfl) dX7_init_35 (fun H h1 h2 h3 => ?_)
  replace hI := hI.new (ws' := [(a, .inr (0, [.int 0, .ref (a + 1), .ref (a + 2), .int 0, .ref (a + 3), .null, .int 0, .null, .int 0, .int 0, .int 0, .int 0, .int 0, .int 0, .null, .int 0, .int 0, .int 0, .int 0, .int 0, .null, .null, .null, .null])), (a + 1, .inl (J 0, 781, .inl (fun _ => 0))), (a + 2, .inl (J 0, 781, .inl (fun _ => 0))), (a + 3, .inl (J 0, 381, .inl (fun _ => 0))), (a + 4, .inl (J 0, 4572, .inl (fun _ => 0)))]) rfl rfl h1 h2 h3
  clear h1 h2 h3
  refine gputF hx hb hts in_X7 tyX7 tyX7_ok nmX7 hown hE.1 (hI.1 0 _ rfl) rfl 5 (by decide) q2105 rfl hin rfl rfl rfl (Nat.le_of_ble_eq_true rfl) dX7_init_37 (fun H locs h1 h2 h3 h4 => ?_)
  replace hI := hI.put (P := 0) (ws' := [(a, .inr (0, [.int 0, .ref (a + 1), .ref (a + 2), .int 0, .ref (a + 3), .ref (a + 4), .int 0, .null, .int 0, .int 0, .int 0, .int 0, .int 0, .int 0, .null, .int 0, .int 0, .int 0, .int 0, .int 0, .null, .null, .null, .null])), (a + 1, .inl (J 0, 781, .inl (fun _ => 0))), (a + 2, .inl (J 0, 781, .inl (fun _ => 0))), (a + 3, .inl (J 0, 381, .inl (fun _ => 0))), (a + 4, .inl (J 0, 4572, .inl (fun _ => 0)))]) rfl rfl h1 h2 h3 h4
  clear h1 h2 h3 h4
  refine lv_aload_n hx hb dX7_init_40 rfl (lv_at hl 0 rfl) ?_
  refine lv_sipush (v := (400 : Int32)) hx hb dX7_init_41 (by decide) ?_
  refine gnewa (D := D) (cl := vwT) (atype := .int) (ty := .int) (cA := J 0) (a0 := (400, .inl (fun _ => 0))) (h := a + 5) hx hb hts q318 rfl (hE.1.2 0 _ rfl).2 (fun _ => rfl) (by decide) rfl (by decide) (hI.2.2.1) (Nat.le_of_ble_eq_true rfl) (Nat.le_of_ble_eq_true rfl) dX7_init_44 (fun H h1 h2 h3 => ?_)
  replace hI := hI.new (ws' := [(a, .inr (0, [.int 0, .ref (a + 1), .ref (a + 2), .int 0, .ref (a + 3), .ref (a + 4), .int 0, .null, .int 0, .int 0, .int 0, .int 0, .int 0, .int 0, .null, .int 0, .int 0, .int 0, .int 0, .int 0, .null, .null, .null, .null])), (a + 1, .inl (J 0, 781, .inl (fun _ => 0))), (a + 2, .inl (J 0, 781, .inl (fun _ => 0))), (a + 3, .inl (J 0, 381, .inl (fun _ => 0))), (a + 4, .inl (J 0, 4572, .inl (fun _ => 0))), (a + 5, .inl (J 0, 400, .inl (fun _ => 0)))]) rfl rfl h1 h2 h3
  clear h1 h2 h3
  refine gputF hx hb hts in_X7 tyX7 tyX7_ok nmX7 hown hE.1 (hI.1 0 _ rfl) rfl 7 (by decide) q2107 rfl hin rfl rfl rfl (Nat.le_of_ble_eq_true rfl) dX7_init_46 (fun H locs h1 h2 h3 h4 => ?_)
  replace hI := hI.put (P := 0) (ws' := [(a, .inr (0, [.int 0, .ref (a + 1), .ref (a + 2), .int 0, .ref (a + 3), .ref (a + 4), .int 0, .ref (a + 5), .int 0, .int 0, .int 0, .int 0, .int 0, .int 0, .null, .int 0, .int 0, .int 0, .int 0, .int 0, .null, .null, .null, .null])), (a + 1, .inl (J 0, 781, .inl (fun _ => 0))), (a + 2, .inl (J 0, 781, .inl (fun _ => 0))), (a + 3, .inl (J 0, 381, .inl (fun _ => 0))), (a + 4, .inl (J 0, 4572, .inl (fun _ => 0))), (a + 5, .inl (J 0, 400, .inl (fun _ => 0)))]) rfl rfl h1 h2 h3 h4
  clear h1 h2 h3 h4
  refine lv_aload_n hx hb dX7_init_49 rfl (lv_at hl 0 rfl) ?_
  refine lv_iconst (v := (-1 : Int32)) hx hb dX7_init_50 (by decide) ?_
  refine gput hx hb hts in_X7 tyX7 tyX7_ok nmX7 hown hE.1 (hI.1 0 _ rfl) rfl 12 (by decide) q2112 rfl rfl rfl (Nat.le_of_ble_eq_true rfl) dX7_init_51 (fun H locs h1 h2 h3 h4 => ?_)
  replace hI := hI.put (P := 0) (ws' := [(a, .inr (0, [.int 0, .ref (a + 1), .ref (a + 2), .int 0, .ref (a + 3), .ref (a + 4), .int 0, .ref (a + 5), .int 0, .int 0, .int 0, .int 0, .int (-1 : Int32), .int 0, .null, .int 0, .int 0, .int 0, .int 0, .int 0, .null, .null, .null, .null])), (a + 1, .inl (J 0, 781, .inl (fun _ => 0))), (a + 2, .inl (J 0, 781, .inl (fun _ => 0))), (a + 3, .inl (J 0, 381, .inl (fun _ => 0))), (a + 4, .inl (J 0, 4572, .inl (fun _ => 0))), (a + 5, .inl (J 0, 400, .inl (fun _ => 0)))]) rfl rfl h1 h2 h3 h4
  clear h1 h2 h3 h4
  refine lv_aload_n hx hb dX7_init_54 rfl (lv_at hl 0 rfl) ?_
  refine lv_bipush (v := (7 : Int32)) hx hb dX7_init_55 (by decide) ?_
  refine gnewa (D := D) (cl := vwT) (atype := .int) (ty := .int) (cA := J 0) (a0 := (7, .inl (fun _ => 0))) (h := a + 6) hx hb hts q318 rfl (hE.1.2 0 _ rfl).2 (fun _ => rfl) (by decide) rfl (by decide) (hI.2.2.1) (Nat.le_of_ble_eq_true rfl) (Nat.le_of_ble_eq_true rfl) dX7_init_57 (fun H h1 h2 h3 => ?_)
  replace hI := hI.new (ws' := [(a, .inr (0, [.int 0, .ref (a + 1), .ref (a + 2), .int 0, .ref (a + 3), .ref (a + 4), .int 0, .ref (a + 5), .int 0, .int 0, .int 0, .int 0, .int (-1 : Int32), .int 0, .null, .int 0, .int 0, .int 0, .int 0, .int 0, .null, .null, .null, .null])), (a + 1, .inl (J 0, 781, .inl (fun _ => 0))), (a + 2, .inl (J 0, 781, .inl (fun _ => 0))), (a + 3, .inl (J 0, 381, .inl (fun _ => 0))), (a + 4, .inl (J 0, 4572, .inl (fun _ => 0))), (a + 5, .inl (J 0, 400, .inl (fun _ => 0))), (a + 6, .inl (J 0, 7, .inl (fun _ => 0)))]) rfl rfl h1 h2 h3
  clear h1 h2 h3
  refine gputF hx hb hts in_X7 tyX7 tyX7_ok nmX7 hown hE.1 (hI.1 0 _ rfl) rfl 14 (by decide) q2114 rfl hin rfl rfl rfl (Nat.le_of_ble_eq_true rfl) dX7_init_59 (fun H locs h1 h2 h3 h4 => ?_)
  replace hI := hI.put (P := 0) (ws' := [(a, .inr (0, [.int 0, .ref (a + 1), .ref (a + 2), .int 0, .ref (a + 3), .ref (a + 4), .int 0, .ref (a + 5), .int 0, .int 0, .int 0, .int 0, .int (-1 : Int32), .int 0, .ref (a + 6), .int 0, .int 0, .int 0, .int 0, .int 0, .null, .null, .null, .null])), (a + 1, .inl (J 0, 781, .inl (fun _ => 0))), (a + 2, .inl (J 0, 781, .inl (fun _ => 0))), (a + 3, .inl (J 0, 381, .inl (fun _ => 0))), (a + 4, .inl (J 0, 4572, .inl (fun _ => 0))), (a + 5, .inl (J 0, 400, .inl (fun _ => 0))), (a + 6, .inl (J 0, 7, .inl (fun _ => 0)))]) rfl rfl h1 h2 h3 h4
  clear h1 h2 h3 h4
  refine lv_aload_n hx hb dX7_init_62 rfl (lv_at hl 0 rfl) ?_
  refine lv_bipush (v := (126 : Int32)) hx hb dX7_init_63 (by decide) ?_
  refine gnewa (D := D) (cl := vwT) (atype := .boolean) (ty := .boolean) (cA := J 1) (a0 := (126, .inl (fun _ => 0))) (h := a + 7) hx hb hts q319 rfl (hE.1.2 1 _ rfl).2 (fun _ => rfl) (by decide) rfl (by decide) (hI.2.2.1) (Nat.le_of_ble_eq_true rfl) (Nat.le_of_ble_eq_true rfl) dX7_init_65 (fun H h1 h2 h3 => ?_)
  replace hI := hI.new (ws' := [(a, .inr (0, [.int 0, .ref (a + 1), .ref (a + 2), .int 0, .ref (a + 3), .ref (a + 4), .int 0, .ref (a + 5), .int 0, .int 0, .int 0, .int 0, .int (-1 : Int32), .int 0, .ref (a + 6), .int 0, .int 0, .int 0, .int 0, .int 0, .null, .null, .null, .null])), (a + 1, .inl (J 0, 781, .inl (fun _ => 0))), (a + 2, .inl (J 0, 781, .inl (fun _ => 0))), (a + 3, .inl (J 0, 381, .inl (fun _ => 0))), (a + 4, .inl (J 0, 4572, .inl (fun _ => 0))), (a + 5, .inl (J 0, 400, .inl (fun _ => 0))), (a + 6, .inl (J 0, 7, .inl (fun _ => 0))), (a + 7, .inl (J 1, 126, .inl (fun _ => 0)))]) rfl rfl h1 h2 h3
  clear h1 h2 h3
  refine gputF hx hb hts in_X7 tyX7 tyX7_ok nmX7 hown hE.1 (hI.1 0 _ rfl) rfl 20 (by decide) q2120 rfl hin rfl rfl rfl (Nat.le_of_ble_eq_true rfl) dX7_init_67 (fun H locs h1 h2 h3 h4 => ?_)
  replace hI := hI.put (P := 0) (ws' := [(a, .inr (0, [.int 0, .ref (a + 1), .ref (a + 2), .int 0, .ref (a + 3), .ref (a + 4), .int 0, .ref (a + 5), .int 0, .int 0, .int 0, .int 0, .int (-1 : Int32), .int 0, .ref (a + 6), .int 0, .int 0, .int 0, .int 0, .int 0, .ref (a + 7), .null, .null, .null])), (a + 1, .inl (J 0, 781, .inl (fun _ => 0))), (a + 2, .inl (J 0, 781, .inl (fun _ => 0))), (a + 3, .inl (J 0, 381, .inl (fun _ => 0))), (a + 4, .inl (J 0, 4572, .inl (fun _ => 0))), (a + 5, .inl (J 0, 400, .inl (fun _ => 0))), (a + 6, .inl (J 0, 7, .inl (fun _ => 0))), (a + 7, .inl (J 1, 126, .inl (fun _ => 0)))]) rfl rfl h1 h2 h3 h4
  clear h1 h2 h3 h4
  refine lv_aload_n hx hb dX7_init_70 rfl (lv_at hl 0 rfl) ?_
  refine lv_bipush (v := (126 : Int32)) hx hb dX7_init_71 (by decide) ?_
  refine gnewa (D := D) (cl := vwT) (atype := .int) (ty := .int) (cA := J 0) (a0 := (126, .inl (fun _ => 0))) (h := a + 8) hx hb hts q318 rfl (hE.1.2 0 _ rfl).2 (fun _ => rfl) (by decide) rfl (by decide) (hI.2.2.1) (Nat.le_of_ble_eq_true rfl) (Nat.le_of_ble_eq_true rfl) dX7_init_73 (fun H h1 h2 h3 => ?_)
  replace hI := hI.new (ws' := [(a, .inr (0, [.int 0, .ref (a + 1), .ref (a + 2), .int 0, .ref (a + 3), .ref (a + 4), .int 0, .ref (a + 5), .int 0, .int 0, .int 0, .int 0, .int (-1 : Int32), .int 0, .ref (a + 6), .int 0, .int 0, .int 0, .int 0, .int 0, .ref (a + 7), .null, .null, .null])), (a + 1, .inl (J 0, 781, .inl (fun _ => 0))), (a + 2, .inl (J 0, 781, .inl (fun _ => 0))), (a + 3, .inl (J 0, 381, .inl (fun _ => 0))), (a + 4, .inl (J 0, 4572, .inl (fun _ => 0))), (a + 5, .inl (J 0, 400, .inl (fun _ => 0))), (a + 6, .inl (J 0, 7, .inl (fun _ => 0))), (a + 7, .inl (J 1, 126, .inl (fun _ => 0))), (a + 8, .inl (J 0, 126, .inl (fun _ => 0)))]) rfl rfl h1 h2 h3
  clear h1 h2 h3
  refine gputF hx hb hts in_X7 tyX7 tyX7_ok nmX7 hown hE.1 (hI.1 0 _ rfl) rfl 21 (by decide) q2121 rfl hin rfl rfl rfl (Nat.le_of_ble_eq_true rfl) dX7_init_75 (fun H locs h1 h2 h3 h4 => ?_)
  replace hI := hI.put (P := 0) (ws' := [(a, .inr (0, [.int 0, .ref (a + 1), .ref (a + 2), .int 0, .ref (a + 3), .ref (a + 4), .int 0, .ref (a + 5), .int 0, .int 0, .int 0, .int 0, .int (-1 : Int32), .int 0, .ref (a + 6), .int 0, .int 0, .int 0, .int 0, .int 0, .ref (a + 7), .ref (a + 8), .null, .null])), (a + 1, .inl (J 0, 781, .inl (fun _ => 0))), (a + 2, .inl (J 0, 781, .inl (fun _ => 0))), (a + 3, .inl (J 0, 381, .inl (fun _ => 0))), (a + 4, .inl (J 0, 4572, .inl (fun _ => 0))), (a + 5, .inl (J 0, 400, .inl (fun _ => 0))), (a + 6, .inl (J 0, 7, .inl (fun _ => 0))), (a + 7, .inl (J 1, 126, .inl (fun _ => 0))), (a + 8, .inl (J 0, 126, .inl (fun _ => 0)))]) rfl rfl h1 h2 h3 h4
  clear h1 h2 h3 h4
  refine lv_aload_n hx hb dX7_init_78 rfl (lv_at hl 0 rfl) ?_
  refine lv_sipush (v := (576 : Int32)) hx hb dX7_init_79 (by decide) ?_
  refine gnewa (D := D) (cl := vwT) (atype := .int) (ty := .int) (cA := J 0) (a0 := (576, .inl (fun _ => 0))) (h := a + 9) hx hb hts q318 rfl (hE.1.2 0 _ rfl).2 (fun _ => rfl) (by decide) rfl (by decide) (hI.2.2.1) (Nat.le_of_ble_eq_true rfl) (Nat.le_of_ble_eq_true rfl) dX7_init_82 (fun H h1 h2 h3 => ?_)
  replace hI := hI.new (ws' := [(a, .inr (0, [.int 0, .ref (a + 1), .ref (a + 2), .int 0, .ref (a + 3), .ref (a + 4), .int 0, .ref (a + 5), .int 0, .int 0, .int 0, .int 0, .int (-1 : Int32), .int 0, .ref (a + 6), .int 0, .int 0, .int 0, .int 0, .int 0, .ref (a + 7), .ref (a + 8), .null, .null])), (a + 1, .inl (J 0, 781, .inl (fun _ => 0))), (a + 2, .inl (J 0, 781, .inl (fun _ => 0))), (a + 3, .inl (J 0, 381, .inl (fun _ => 0))), (a + 4, .inl (J 0, 4572, .inl (fun _ => 0))), (a + 5, .inl (J 0, 400, .inl (fun _ => 0))), (a + 6, .inl (J 0, 7, .inl (fun _ => 0))), (a + 7, .inl (J 1, 126, .inl (fun _ => 0))), (a + 8, .inl (J 0, 126, .inl (fun _ => 0))), (a + 9, .inl (J 0, 576, .inl (fun _ => 0)))]) rfl rfl h1 h2 h3
  clear h1 h2 h3
  refine gputF hx hb hts in_X7 tyX7 tyX7_ok nmX7 hown hE.1 (hI.1 0 _ rfl) rfl 22 (by decide) q2122 rfl hin rfl rfl rfl (Nat.le_of_ble_eq_true rfl) dX7_init_84 (fun H locs h1 h2 h3 h4 => ?_)
  replace hI := hI.put (P := 0) (ws' := [(a, .inr (0, [.int 0, .ref (a + 1), .ref (a + 2), .int 0, .ref (a + 3), .ref (a + 4), .int 0, .ref (a + 5), .int 0, .int 0, .int 0, .int 0, .int (-1 : Int32), .int 0, .ref (a + 6), .int 0, .int 0, .int 0, .int 0, .int 0, .ref (a + 7), .ref (a + 8), .ref (a + 9), .null])), (a + 1, .inl (J 0, 781, .inl (fun _ => 0))), (a + 2, .inl (J 0, 781, .inl (fun _ => 0))), (a + 3, .inl (J 0, 381, .inl (fun _ => 0))), (a + 4, .inl (J 0, 4572, .inl (fun _ => 0))), (a + 5, .inl (J 0, 400, .inl (fun _ => 0))), (a + 6, .inl (J 0, 7, .inl (fun _ => 0))), (a + 7, .inl (J 1, 126, .inl (fun _ => 0))), (a + 8, .inl (J 0, 126, .inl (fun _ => 0))), (a + 9, .inl (J 0, 576, .inl (fun _ => 0)))]) rfl rfl h1 h2 h3 h4
  clear h1 h2 h3 h4
  refine lv_aload_n hx hb dX7_init_87 rfl (lv_at hl 0 rfl) ?_
  refine lv_bipush (v := (8 : Int32)) hx hb dX7_init_88 (by decide) ?_
  refine gnewa (D := D) (cl := vwT) (atype := .int) (ty := .int) (cA := J 0) (a0 := (8, .inl (fun _ => 0))) (h := a + 10) hx hb hts q318 rfl (hE.1.2 0 _ rfl).2 (fun _ => rfl) (by decide) rfl (by decide) (hI.2.2.1) (Nat.le_of_ble_eq_true rfl) (Nat.le_of_ble_eq_true rfl) dX7_init_90 (fun H h1 h2 h3 => ?_)
  replace hI := hI.new (ws' := [(a, .inr (0, [.int 0, .ref (a + 1), .ref (a + 2), .int 0, .ref (a + 3), .ref (a + 4), .int 0, .ref (a + 5), .int 0, .int 0, .int 0, .int 0, .int (-1 : Int32), .int 0, .ref (a + 6), .int 0, .int 0, .int 0, .int 0, .int 0, .ref (a + 7), .ref (a + 8), .ref (a + 9), .null])), (a + 1, .inl (J 0, 781, .inl (fun _ => 0))), (a + 2, .inl (J 0, 781, .inl (fun _ => 0))), (a + 3, .inl (J 0, 381, .inl (fun _ => 0))), (a + 4, .inl (J 0, 4572, .inl (fun _ => 0))), (a + 5, .inl (J 0, 400, .inl (fun _ => 0))), (a + 6, .inl (J 0, 7, .inl (fun _ => 0))), (a + 7, .inl (J 1, 126, .inl (fun _ => 0))), (a + 8, .inl (J 0, 126, .inl (fun _ => 0))), (a + 9, .inl (J 0, 576, .inl (fun _ => 0))), (a + 10, .inl (J 0, 8, .inl (fun _ => 0)))]) rfl rfl h1 h2 h3
  clear h1 h2 h3
  refine gputF hx hb hts in_X7 tyX7 tyX7_ok nmX7 hown hE.1 (hI.1 0 _ rfl) rfl 23 (by decide) q2123 rfl hin rfl rfl rfl (Nat.le_of_ble_eq_true rfl) dX7_init_92 (fun H locs h1 h2 h3 h4 => ?_)
  replace hI := hI.put (P := 0) (ws' := [(a, .inr (0, [.int 0, .ref (a + 1), .ref (a + 2), .int 0, .ref (a + 3), .ref (a + 4), .int 0, .ref (a + 5), .int 0, .int 0, .int 0, .int 0, .int (-1 : Int32), .int 0, .ref (a + 6), .int 0, .int 0, .int 0, .int 0, .int 0, .ref (a + 7), .ref (a + 8), .ref (a + 9), .ref (a + 10)])), (a + 1, .inl (J 0, 781, .inl (fun _ => 0))), (a + 2, .inl (J 0, 781, .inl (fun _ => 0))), (a + 3, .inl (J 0, 381, .inl (fun _ => 0))), (a + 4, .inl (J 0, 4572, .inl (fun _ => 0))), (a + 5, .inl (J 0, 400, .inl (fun _ => 0))), (a + 6, .inl (J 0, 7, .inl (fun _ => 0))), (a + 7, .inl (J 1, 126, .inl (fun _ => 0))), (a + 8, .inl (J 0, 126, .inl (fun _ => 0))), (a + 9, .inl (J 0, 576, .inl (fun _ => 0))), (a + 10, .inl (J 0, 8, .inl (fun _ => 0)))]) rfl rfl h1 h2 h3 h4
  clear h1 h2 h3 h4
  refine lv_aload_n hx hb dX7_init_95 rfl (lv_at hl 0 rfl) ?_
  refine gget hx hb hts in_X7 hown hE.1 (hI.1 0 _ rfl) rfl 1 (by decide) q2101 rfl dX7_init_96 ?_
  refine lv_iconst (v := (1 : Int32)) hx hb dX7_init_99 (by decide) ?_
  refine lv_iconst (v := (-1 : Int32)) hx hb dX7_init_100 (by decide) ?_
  refine gast (g := (upd (fun _ => 0) 1 (-1 : Int32))) hx hb hE.1 0 (hI.1 1 _ rfl) rfl rfl dX7_init_101 (fun H locs h1 h2 h3 h4 => ?_)
  replace hI := hI.put (P := 1) (ws' := [(a, .inr (0, [.int 0, .ref (a + 1), .ref (a + 2), .int 0, .ref (a + 3), .ref (a + 4), .int 0, .ref (a + 5), .int 0, .int 0, .int 0, .int 0, .int (-1 : Int32), .int 0, .ref (a + 6), .int 0, .int 0, .int 0, .int 0, .int 0, .ref (a + 7), .ref (a + 8), .ref (a + 9), .ref (a + 10)])), (a + 1, .inl (J 0, 781, .inl (upd (fun _ => 0) 1 (-1 : Int32)))), (a + 2, .inl (J 0, 781, .inl (fun _ => 0))), (a + 3, .inl (J 0, 381, .inl (fun _ => 0))), (a + 4, .inl (J 0, 4572, .inl (fun _ => 0))), (a + 5, .inl (J 0, 400, .inl (fun _ => 0))), (a + 6, .inl (J 0, 7, .inl (fun _ => 0))), (a + 7, .inl (J 1, 126, .inl (fun _ => 0))), (a + 8, .inl (J 0, 126, .inl (fun _ => 0))), (a + 9, .inl (J 0, 576, .inl (fun _ => 0))), (a + 10, .inl (J 0, 8, .inl (fun _ => 0)))]) rfl rfl h1 h2 h3 h4
  clear h1 h2 h3 h4
  refine lv_aload_n hx hb dX7_init_102 rfl (lv_at hl 0 rfl) ?_
  refine gget hx hb hts in_X7 hown hE.1 (hI.1 0 _ rfl) rfl 1 (by decide) q2101 rfl dX7_init_103 ?_
  refine lv_bipush (v := (7 : Int32)) hx hb dX7_init_106 (by decide) ?_
  refine lv_iconst (v := (1 : Int32)) hx hb dX7_init_108 (by decide) ?_
  refine gast (g := (upd (upd (fun _ => 0) 1 (-1 : Int32)) 7 (1 : Int32))) hx hb hE.1 0 (hI.1 1 _ rfl) rfl rfl dX7_init_109 (fun H locs h1 h2 h3 h4 => ?_)
  replace hI := hI.put (P := 1) (ws' := [(a, .inr (0, [.int 0, .ref (a + 1), .ref (a + 2), .int 0, .ref (a + 3), .ref (a + 4), .int 0, .ref (a + 5), .int 0, .int 0, .int 0, .int 0, .int (-1 : Int32), .int 0, .ref (a + 6), .int 0, .int 0, .int 0, .int 0, .int 0, .ref (a + 7), .ref (a + 8), .ref (a + 9), .ref (a + 10)])), (a + 1, .inl (J 0, 781, .inl (upd (upd (fun _ => 0) 1 (-1 : Int32)) 7 (1 : Int32)))), (a + 2, .inl (J 0, 781, .inl (fun _ => 0))), (a + 3, .inl (J 0, 381, .inl (fun _ => 0))), (a + 4, .inl (J 0, 4572, .inl (fun _ => 0))), (a + 5, .inl (J 0, 400, .inl (fun _ => 0))), (a + 6, .inl (J 0, 7, .inl (fun _ => 0))), (a + 7, .inl (J 1, 126, .inl (fun _ => 0))), (a + 8, .inl (J 0, 126, .inl (fun _ => 0))), (a + 9, .inl (J 0, 576, .inl (fun _ => 0))), (a + 10, .inl (J 0, 8, .inl (fun _ => 0)))]) rfl rfl h1 h2 h3 h4
  clear h1 h2 h3 h4
  refine lv_aload_n hx hb dX7_init_110 rfl (lv_at hl 0 rfl) ?_
  refine gget hx hb hts in_X7 hown hE.1 (hI.1 0 _ rfl) rfl 1 (by decide) q2101 rfl dX7_init_111 ?_
  refine lv_bipush (v := (10 : Int32)) hx hb dX7_init_114 (by decide) ?_
  refine lv_iconst (v := (1 : Int32)) hx hb dX7_init_116 (by decide) ?_
  refine gast (g := (upd (upd (upd (fun _ => 0) 1 (-1 : Int32)) 7 (1 : Int32)) 10 (1 : Int32))) hx hb hE.1 0 (hI.1 1 _ rfl) rfl rfl dX7_init_117 (fun H locs h1 h2 h3 h4 => ?_)
  replace hI := hI.put (P := 1) (ws' := [(a, .inr (0, [.int 0, .ref (a + 1), .ref (a + 2), .int 0, .ref (a + 3), .ref (a + 4), .int 0, .ref (a + 5), .int 0, .int 0, .int 0, .int 0, .int (-1 : Int32), .int 0, .ref (a + 6), .int 0, .int 0, .int 0, .int 0, .int 0, .ref (a + 7), .ref (a + 8), .ref (a + 9), .ref (a + 10)])), (a + 1, .inl (J 0, 781, .inl (upd (upd (upd (fun _ => 0) 1 (-1 : Int32)) 7 (1 : Int32)) 10 (1 : Int32)))), (a + 2, .inl (J 0, 781, .inl (fun _ => 0))), (a + 3, .inl (J 0, 381, .inl (fun _ => 0))), (a + 4, .inl (J 0, 4572, .inl (fun _ => 0))), (a + 5, .inl (J 0, 400, .inl (fun _ => 0))), (a + 6, .inl (J 0, 7, .inl (fun _ => 0))), (a + 7, .inl (J 1, 126, .inl (fun _ => 0))), (a + 8, .inl (J 0, 126, .inl (fun _ => 0))), (a + 9, .inl (J 0, 576, .inl (fun _ => 0))), (a + 10, .inl (J 0, 8, .inl (fun _ => 0)))]) rfl rfl h1 h2 h3 h4
  clear h1 h2 h3 h4
  refine lv_iconst (v := (0 : Int32)) hx hb dX7_init_118 (by decide) ?_
  refine lv_istore_n (lv' := [(1, .int (0 : Int32)), (0, .ref a)]) hx hb dX7_init_119 rfl hl (by decide) rfl (fun ls hl => ?_)
  refine lv_iload_n hx hb dX7_init_120 rfl (lv_at hl 0 rfl) ?_
  refine lv_iconst (v := (4 : Int32)) hx hb dX7_init_121 (by decide) ?_
  refine lv_icmp_ge (tgt := 141) hx hb dX7_init_122 (by decide) (fun hc => absurd hc (by decide)) (fun hc => ?_)
  refine lv_aload_n hx hb dX7_init_125 rfl (lv_at hl 1 rfl) ?_
  refine gget hx hb hts in_X7 hown hE.1 (hI.1 0 _ rfl) rfl 1 (by decide) q2101 rfl dX7_init_126 ?_
  refine lv_bipush (v := (11 : Int32)) hx hb dX7_init_129 (by decide) ?_
  refine lv_iload_n hx hb dX7_init_131 rfl (lv_at hl 0 rfl) ?_
  refine lv_iadd hx hb dX7_init_132 ?_
  rw [show (11 : Int32) + (0 : Int32) = (11 : Int32) from by decide]
  refine lv_iconst (v := (2 : Int32)) hx hb dX7_init_133 (by decide) ?_
  refine gast (g := (upd (upd (upd (upd (fun _ => 0) 1 (-1 : Int32)) 7 (1 : Int32)) 10 (1 : Int32)) 11 (2 : Int32))) hx hb hE.1 0 (hI.1 1 _ rfl) rfl rfl dX7_init_134 (fun H locs h1 h2 h3 h4 => ?_)
  replace hI := hI.put (P := 1) (ws' := [(a, .inr (0, [.int 0, .ref (a + 1), .ref (a + 2), .int 0, .ref (a + 3), .ref (a + 4), .int 0, .ref (a + 5), .int 0, .int 0, .int 0, .int 0, .int (-1 : Int32), .int 0, .ref (a + 6), .int 0, .int 0, .int 0, .int 0, .int 0, .ref (a + 7), .ref (a + 8), .ref (a + 9), .ref (a + 10)])), (a + 1, .inl (J 0, 781, .inl (upd (upd (upd (upd (fun _ => 0) 1 (-1 : Int32)) 7 (1 : Int32)) 10 (1 : Int32)) 11 (2 : Int32)))), (a + 2, .inl (J 0, 781, .inl (fun _ => 0))), (a + 3, .inl (J 0, 381, .inl (fun _ => 0))), (a + 4, .inl (J 0, 4572, .inl (fun _ => 0))), (a + 5, .inl (J 0, 400, .inl (fun _ => 0))), (a + 6, .inl (J 0, 7, .inl (fun _ => 0))), (a + 7, .inl (J 1, 126, .inl (fun _ => 0))), (a + 8, .inl (J 0, 126, .inl (fun _ => 0))), (a + 9, .inl (J 0, 576, .inl (fun _ => 0))), (a + 10, .inl (J 0, 8, .inl (fun _ => 0)))]) rfl rfl h1 h2 h3 h4
  clear h1 h2 h3 h4
  refine lv_iinc (v := (1 : Int32)) (lv' := [(1, .int (1 : Int32)), (0, .ref a)]) hx hb dX7_init_135 hl (k := 0) rfl (by decide) (by decide) rfl (fun ls hl => ?_)
  refine lv_goto (tgt := 120) hx hb dX7_init_138 (by decide) ?_
  refine lv_iload_n hx hb dX7_init_120 rfl (lv_at hl 0 rfl) ?_
  refine lv_iconst (v := (4 : Int32)) hx hb dX7_init_121 (by decide) ?_
  refine lv_icmp_ge (tgt := 141) hx hb dX7_init_122 (by decide) (fun hc => absurd hc (by decide)) (fun hc => ?_)
  refine lv_aload_n hx hb dX7_init_125 rfl (lv_at hl 1 rfl) ?_
  refine gget hx hb hts in_X7 hown hE.1 (hI.1 0 _ rfl) rfl 1 (by decide) q2101 rfl dX7_init_126 ?_
  refine lv_bipush (v := (11 : Int32)) hx hb dX7_init_129 (by decide) ?_
  refine lv_iload_n hx hb dX7_init_131 rfl (lv_at hl 0 rfl) ?_
  refine lv_iadd hx hb dX7_init_132 ?_
  rw [show (11 : Int32) + (1 : Int32) = (12 : Int32) from by decide]
  refine lv_iconst (v := (2 : Int32)) hx hb dX7_init_133 (by decide) ?_
  refine gast (g := (upd (upd (upd (upd (upd (fun _ => 0) 1 (-1 : Int32)) 7 (1 : Int32)) 10 (1 : Int32)) 11 (2 : Int32)) 12 (2 : Int32))) hx hb hE.1 0 (hI.1 1 _ rfl) rfl rfl dX7_init_134 (fun H locs h1 h2 h3 h4 => ?_)
  replace hI := hI.put (P := 1) (ws' := [(a, .inr (0, [.int 0, .ref (a + 1), .ref (a + 2), .int 0, .ref (a + 3), .ref (a + 4), .int 0, .ref (a + 5), .int 0, .int 0, .int 0, .int 0, .int (-1 : Int32), .int 0, .ref (a + 6), .int 0, .int 0, .int 0, .int 0, .int 0, .ref (a + 7), .ref (a + 8), .ref (a + 9), .ref (a + 10)])), (a + 1, .inl (J 0, 781, .inl (upd (upd (upd (upd (upd (fun _ => 0) 1 (-1 : Int32)) 7 (1 : Int32)) 10 (1 : Int32)) 11 (2 : Int32)) 12 (2 : Int32)))), (a + 2, .inl (J 0, 781, .inl (fun _ => 0))), (a + 3, .inl (J 0, 381, .inl (fun _ => 0))), (a + 4, .inl (J 0, 4572, .inl (fun _ => 0))), (a + 5, .inl (J 0, 400, .inl (fun _ => 0))), (a + 6, .inl (J 0, 7, .inl (fun _ => 0))), (a + 7, .inl (J 1, 126, .inl (fun _ => 0))), (a + 8, .inl (J 0, 126, .inl (fun _ => 0))), (a + 9, .inl (J 0, 576, .inl (fun _ => 0))), (a + 10, .inl (J 0, 8, .inl (fun _ => 0)))]) rfl rfl h1 h2 h3 h4
  clear h1 h2 h3 h4
  refine lv_iinc (v := (2 : Int32)) (lv' := [(1, .int (2 : Int32)), (0, .ref a)]) hx hb dX7_init_135 hl (k := 0) rfl (by decide) (by decide) rfl (fun ls hl => ?_)
  refine lv_goto (tgt := 120) hx hb dX7_init_138 (by decide) ?_
  refine lv_iload_n hx hb dX7_init_120 rfl (lv_at hl 0 rfl) ?_
  refine lv_iconst (v := (4 : Int32)) hx hb dX7_init_121 (by decide) ?_
  refine lv_icmp_ge (tgt := 141) hx hb dX7_init_122 (by decide) (fun hc => absurd hc (by decide)) (fun hc => ?_)
  refine lv_aload_n hx hb dX7_init_125 rfl (lv_at hl 1 rfl) ?_
  refine gget hx hb hts in_X7 hown hE.1 (hI.1 0 _ rfl) rfl 1 (by decide) q2101 rfl dX7_init_126 ?_
  refine lv_bipush (v := (11 : Int32)) hx hb dX7_init_129 (by decide) ?_
  refine lv_iload_n hx hb dX7_init_131 rfl (lv_at hl 0 rfl) ?_
  refine lv_iadd hx hb dX7_init_132 ?_
  rw [show (11 : Int32) + (2 : Int32) = (13 : Int32) from by decide]
  refine lv_iconst (v := (2 : Int32)) hx hb dX7_init_133 (by decide) ?_
  refine gast (g := (upd (upd (upd (upd (upd (upd (fun _ => 0) 1 (-1 : Int32)) 7 (1 : Int32)) 10 (1 : Int32)) 11 (2 : Int32)) 12 (2 : Int32)) 13 (2 : Int32))) hx hb hE.1 0 (hI.1 1 _ rfl) rfl rfl dX7_init_134 (fun H locs h1 h2 h3 h4 => ?_)
  replace hI := hI.put (P := 1) (ws' := [(a, .inr (0, [.int 0, .ref (a + 1), .ref (a + 2), .int 0, .ref (a + 3), .ref (a + 4), .int 0, .ref (a + 5), .int 0, .int 0, .int 0, .int 0, .int (-1 : Int32), .int 0, .ref (a + 6), .int 0, .int 0, .int 0, .int 0, .int 0, .ref (a + 7), .ref (a + 8), .ref (a + 9), .ref (a + 10)])), (a + 1, .inl (J 0, 781, .inl (upd (upd (upd (upd (upd (upd (fun _ => 0) 1 (-1 : Int32)) 7 (1 : Int32)) 10 (1 : Int32)) 11 (2 : Int32)) 12 (2 : Int32)) 13 (2 : Int32)))), (a + 2, .inl (J 0, 781, .inl (fun _ => 0))), (a + 3, .inl (J 0, 381, .inl (fun _ => 0))), (a + 4, .inl (J 0, 4572, .inl (fun _ => 0))), (a + 5, .inl (J 0, 400, .inl (fun _ => 0))), (a + 6, .inl (J 0, 7, .inl (fun _ => 0))), (a + 7, .inl (J 1, 126, .inl (fun _ => 0))), (a + 8, .inl (J 0, 126, .inl (fun _ => 0))), (a + 9, .inl (J 0, 576, .inl (fun _ => 0))), (a + 10, .inl (J 0, 8, .inl (fun _ => 0)))]) rfl rfl h1 h2 h3 h4
  clear h1 h2 h3 h4
  refine lv_iinc (v := (3 : Int32)) (lv' := [(1, .int (3 : Int32)), (0, .ref a)]) hx hb dX7_init_135 hl (k := 0) rfl (by decide) (by decide) rfl (fun ls hl => ?_)
  refine lv_goto (tgt := 120) hx hb dX7_init_138 (by decide) ?_
  refine lv_iload_n hx hb dX7_init_120 rfl (lv_at hl 0 rfl) ?_
  refine lv_iconst (v := (4 : Int32)) hx hb dX7_init_121 (by decide) ?_
  refine lv_icmp_ge (tgt := 141) hx hb dX7_init_122 (by decide) (fun hc => absurd hc (by decide)) (fun hc => ?_)
  refine lv_aload_n hx hb dX7_init_125 rfl (lv_at hl 1 rfl) ?_
  refine gget hx hb hts in_X7 hown hE.1 (hI.1 0 _ rfl) rfl 1 (by decide) q2101 rfl dX7_init_126 ?_
  refine lv_bipush (v := (11 : Int32)) hx hb dX7_init_129 (by decide) ?_
  refine lv_iload_n hx hb dX7_init_131 rfl (lv_at hl 0 rfl) ?_
  refine lv_iadd hx hb dX7_init_132 ?_
  rw [show (11 : Int32) + (3 : Int32) = (14 : Int32) from by decide]
  refine lv_iconst (v := (2 : Int32)) hx hb dX7_init_133 (by decide) ?_
  refine gast (g := (upd (upd (upd (upd (upd (upd (upd (fun _ => 0) 1 (-1 : Int32)) 7 (1 : Int32)) 10 (1 : Int32)) 11 (2 : Int32)) 12 (2 : Int32)) 13 (2 : Int32)) 14 (2 : Int32))) hx hb hE.1 0 (hI.1 1 _ rfl) rfl rfl dX7_init_134 (fun H locs h1 h2 h3 h4 => ?_)
  replace hI := hI.put (P := 1) (ws' := [(a, .inr (0, [.int 0, .ref (a + 1), .ref (a + 2), .int 0, .ref (a + 3), .ref (a + 4), .int 0, .ref (a + 5), .int 0, .int 0, .int 0, .int 0, .int (-1 : Int32), .int 0, .ref (a + 6), .int 0, .int 0, .int 0, .int 0, .int 0, .ref (a + 7), .ref (a + 8), .ref (a + 9), .ref (a + 10)])), (a + 1, .inl (J 0, 781, .inl (upd (upd (upd (upd (upd (upd (upd (fun _ => 0) 1 (-1 : Int32)) 7 (1 : Int32)) 10 (1 : Int32)) 11 (2 : Int32)) 12 (2 : Int32)) 13 (2 : Int32)) 14 (2 : Int32)))), (a + 2, .inl (J 0, 781, .inl (fun _ => 0))), (a + 3, .inl (J 0, 381, .inl (fun _ => 0))), (a + 4, .inl (J 0, 4572, .inl (fun _ => 0))), (a + 5, .inl (J 0, 400, .inl (fun _ => 0))), (a + 6, .inl (J 0, 7, .inl (fun _ => 0))), (a + 7, .inl (J 1, 126, .inl (fun _ => 0))), (a + 8, .inl (J 0, 126, .inl (fun _ => 0))), (a + 9, .inl (J 0, 576, .inl (fun _ => 0))), (a + 10, .inl (J 0, 8, .inl (fun _ => 0)))]) rfl rfl h1 h2 h3 h4
  clear h1 h2 h3 h4
  refine lv_iinc (v := (4 : Int32)) (lv' := [(1, .int (4 : Int32)), (0, .ref a)]) hx hb dX7_init_135 hl (k := 0) rfl (by decide) (by decide) rfl (fun ls hl => ?_)
  refine lv_goto (tgt := 120) hx hb dX7_init_138 (by decide) ?_
  refine lv_iload_n hx hb dX7_init_120 rfl (lv_at hl 0 rfl) ?_
  refine lv_iconst (v := (4 : Int32)) hx hb dX7_init_121 (by decide) ?_
  refine lv_icmp_ge (tgt := 141) hx hb dX7_init_122 (by decide) (fun hc => ?_) (fun hc => absurd (by decide) hc)
  exact W.vret hx hb B.returns (fun t ht hW => ⟨⟨(), rfl, trivial, by rw [ht]; exact hI.1, by rw [ht]; exact hI.2.2.1⟩, hI.2.2.2.F ht⟩) hI.2.2.2.2.2 dX7_init_141 B.notSynchronized
