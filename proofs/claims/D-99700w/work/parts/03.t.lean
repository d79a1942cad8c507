/-! java/lang/String -/
set_option maxRecDepth 100000
def RJ6 : String := "java/lang/String"
def TJ6 : u_T := fun k => match k with
  | 0 => ("java/lang/String", "value", "[B", true)
  | 1 => ("java/lang/String", "coder", "B", true)
  | 2 => ("java/lang/String", "hash", "I", false)
  | _ => ("java/lang/String", "hashIsZero", "Z", false)
def tyJ6 : Nat → FieldType := fun k => match k with
  | 0 => .array .byte
  | 1 => .byte
  | 2 => .int
  | _ => .boolean
abbrev wsJ60 : List Cond := u_ws RJ6 TJ6 4
theorem nmJ6 : ∀ a, a < 4 → ∀ b, b < 4 → a ≠ b → (TJ6 a).2.1 ≠ (TJ6 b).2.1 := by decide +kernel
theorem tyJ6_ok : ∀ k, k < 4 → parseFieldDescriptor (TJ6 k).2.2.1 = some (tyJ6 k) := by decide +kernel
abbrev cJ6_checkIndex : ByteArray := prog_38_method_155_code
def yJ6_checkIndex : MethodName := ⟨RJ6, "checkIndex", "(II)V"⟩
def dkwJ6_checkIndex_0 : List UInt8 := [26, 27, 178, 4, 29, 184, 4, 35, 87, 177]
abbrev dktJ6_checkIndex_0 : List UInt8 := dkwJ6_checkIndex_0 ++ []
theorem dksJ6_checkIndex_0 : cJ6_checkIndex.data.toList.drop 0 = dktJ6_checkIndex_0 := by decide +kernel
theorem dJ6_checkIndex_0 : decode cJ6_checkIndex 0 = .ok (.iload_n 0, 1) := dk_26 (dk_at dksJ6_checkIndex_0 0 rfl rfl)
theorem dJ6_checkIndex_1 : decode cJ6_checkIndex 1 = .ok (.iload_n 1, 1) := dk_27 (dk_at dksJ6_checkIndex_0 1 rfl rfl)
theorem dJ6_checkIndex_2 : decode cJ6_checkIndex 2 = .ok (.getstatic 1053, 3) := dk_178 4 29 (dk_at dksJ6_checkIndex_0 2 rfl rfl)
theorem dJ6_checkIndex_5 : decode cJ6_checkIndex 5 = .ok (.invokestatic 1059, 3) := dk_184 4 35 (dk_at dksJ6_checkIndex_0 5 rfl rfl)
theorem dJ6_checkIndex_8 : decode cJ6_checkIndex 8 = .ok (.pop, 1) := dk_87 (dk_at dksJ6_checkIndex_0 8 rfl rfl)
theorem dJ6_checkIndex_9 : decode cJ6_checkIndex 9 = .ok (.return_, 1) := dk_177 (dk_at dksJ6_checkIndex_0 9 rfl rfl)
abbrev cJ6_length : ByteArray := prog_38_method_54_code
def yJ6_length : MethodName := ⟨RJ6, "length", "()I"⟩
def dkwJ6_length_0 : List UInt8 := [42, 180, 0, 9, 190, 42, 182, 1, 79, 122, 172]
abbrev dktJ6_length_0 : List UInt8 := dkwJ6_length_0 ++ []
theorem dksJ6_length_0 : cJ6_length.data.toList.drop 0 = dktJ6_length_0 := by decide +kernel
theorem dJ6_length_0 : decode cJ6_length 0 = .ok (.aload_n 0, 1) := dk_42 (dk_at dksJ6_length_0 0 rfl rfl)
theorem dJ6_length_1 : decode cJ6_length 1 = .ok (.getfield 9, 3) := dk_180 0 9 (dk_at dksJ6_length_0 1 rfl rfl)
theorem dJ6_length_4 : decode cJ6_length 4 = .ok (.arraylength, 1) := dk_190 (dk_at dksJ6_length_0 4 rfl rfl)
theorem dJ6_length_5 : decode cJ6_length 5 = .ok (.aload_n 0, 1) := dk_42 (dk_at dksJ6_length_0 5 rfl rfl)
theorem dJ6_length_6 : decode cJ6_length 6 = .ok (.invokevirtual 335, 3) := dk_182 1 79 (dk_at dksJ6_length_0 6 rfl rfl)
theorem dJ6_length_9 : decode cJ6_length 9 = .ok (.ishr, 1) := dk_122 (dk_at dksJ6_length_0 9 rfl rfl)
theorem dJ6_length_10 : decode cJ6_length 10 = .ok (.ireturn, 1) := dk_172 (dk_at dksJ6_length_0 10 rfl rfl)
abbrev cJ6_coder : ByteArray := prog_38_method_152_code
def yJ6_coder : MethodName := ⟨RJ6, "coder", "()B"⟩
def dkwJ6_coder_0 : List UInt8 := [178, 0, 38, 153, 0, 10, 42, 180, 0, 15, 167, 0, 4, 4, 172]
abbrev dktJ6_coder_0 : List UInt8 := dkwJ6_coder_0 ++ []
theorem dksJ6_coder_0 : cJ6_coder.data.toList.drop 0 = dktJ6_coder_0 := by decide +kernel
theorem dJ6_coder_0 : decode cJ6_coder 0 = .ok (.getstatic 38, 3) := dk_178 0 38 (dk_at dksJ6_coder_0 0 rfl rfl)
theorem dJ6_coder_3 : decode cJ6_coder 3 = .ok (.ifCond .eq 10, 3) := dk_153 0 10 (dk_at dksJ6_coder_0 3 rfl rfl)
theorem dJ6_coder_6 : decode cJ6_coder 6 = .ok (.aload_n 0, 1) := dk_42 (dk_at dksJ6_coder_0 6 rfl rfl)
theorem dJ6_coder_7 : decode cJ6_coder 7 = .ok (.getfield 15, 3) := dk_180 0 15 (dk_at dksJ6_coder_0 7 rfl rfl)
theorem dJ6_coder_10 : decode cJ6_coder 10 = .ok (.goto 4, 3) := dk_167 0 4 (dk_at dksJ6_coder_0 10 rfl rfl)
theorem dJ6_coder_13 : decode cJ6_coder 13 = .ok (.iconst 1, 1) := dk_4 (dk_at dksJ6_coder_0 13 rfl rfl)
theorem dJ6_coder_14 : decode cJ6_coder 14 = .ok (.ireturn, 1) := dk_172 (dk_at dksJ6_coder_0 14 rfl rfl)
abbrev cJ6_isLatin1 : ByteArray := prog_38_method_154_code
def yJ6_isLatin1 : MethodName := ⟨RJ6, "isLatin1", "()Z"⟩
def dkwJ6_isLatin1_0 : List UInt8 := [178, 0, 38, 153, 0, 14, 42, 180, 0, 15, 154, 0, 7, 4, 167, 0, 4, 3, 172]
abbrev dktJ6_isLatin1_0 : List UInt8 := dkwJ6_isLatin1_0 ++ []
theorem dksJ6_isLatin1_0 : cJ6_isLatin1.data.toList.drop 0 = dktJ6_isLatin1_0 := by decide +kernel
theorem dJ6_isLatin1_0 : decode cJ6_isLatin1 0 = .ok (.getstatic 38, 3) := dk_178 0 38 (dk_at dksJ6_isLatin1_0 0 rfl rfl)
theorem dJ6_isLatin1_3 : decode cJ6_isLatin1 3 = .ok (.ifCond .eq 14, 3) := dk_153 0 14 (dk_at dksJ6_isLatin1_0 3 rfl rfl)
theorem dJ6_isLatin1_6 : decode cJ6_isLatin1 6 = .ok (.aload_n 0, 1) := dk_42 (dk_at dksJ6_isLatin1_0 6 rfl rfl)
theorem dJ6_isLatin1_7 : decode cJ6_isLatin1 7 = .ok (.getfield 15, 3) := dk_180 0 15 (dk_at dksJ6_isLatin1_0 7 rfl rfl)
theorem dJ6_isLatin1_10 : decode cJ6_isLatin1 10 = .ok (.ifCond .ne 7, 3) := dk_154 0 7 (dk_at dksJ6_isLatin1_0 10 rfl rfl)
theorem dJ6_isLatin1_13 : decode cJ6_isLatin1 13 = .ok (.iconst 1, 1) := dk_4 (dk_at dksJ6_isLatin1_0 13 rfl rfl)
theorem dJ6_isLatin1_14 : decode cJ6_isLatin1 14 = .ok (.goto 4, 3) := dk_167 0 4 (dk_at dksJ6_isLatin1_0 14 rfl rfl)
theorem dJ6_isLatin1_17 : decode cJ6_isLatin1 17 = .ok (.iconst 0, 1) := dk_3 (dk_at dksJ6_isLatin1_0 17 rfl rfl)
theorem dJ6_isLatin1_18 : decode cJ6_isLatin1 18 = .ok (.ireturn, 1) := dk_172 (dk_at dksJ6_isLatin1_0 18 rfl rfl)
abbrev cJ6_charAt : ByteArray := prog_38_method_56_code
def yJ6_charAt : MethodName := ⟨RJ6, "charAt", "(I)C"⟩
def dkwJ6_charAt_1 : List UInt8 := [172]
abbrev dktJ6_charAt_1 : List UInt8 := dkwJ6_charAt_1 ++ []
def dkwJ6_charAt_0 : List UInt8 := [42, 182, 1, 236, 153, 0, 12, 42, 180, 0, 9, 27, 184, 1, 239, 172, 42, 180, 0, 9, 27, 184, 1, 242]
abbrev dktJ6_charAt_0 : List UInt8 := dkwJ6_charAt_0 ++ dktJ6_charAt_1
theorem dksJ6_charAt_0 : cJ6_charAt.data.toList.drop 0 = dktJ6_charAt_0 := by decide +kernel
theorem dksJ6_charAt_1 : cJ6_charAt.data.toList.drop 24 = dktJ6_charAt_1 := dk_seg dksJ6_charAt_0 24 rfl rfl
theorem dJ6_charAt_0 : decode cJ6_charAt 0 = .ok (.aload_n 0, 1) := dk_42 (dk_at dksJ6_charAt_0 0 rfl rfl)
theorem dJ6_charAt_1 : decode cJ6_charAt 1 = .ok (.invokevirtual 492, 3) := dk_182 1 236 (dk_at dksJ6_charAt_0 1 rfl rfl)
theorem dJ6_charAt_4 : decode cJ6_charAt 4 = .ok (.ifCond .eq 12, 3) := dk_153 0 12 (dk_at dksJ6_charAt_0 4 rfl rfl)
theorem dJ6_charAt_7 : decode cJ6_charAt 7 = .ok (.aload_n 0, 1) := dk_42 (dk_at dksJ6_charAt_0 7 rfl rfl)
theorem dJ6_charAt_8 : decode cJ6_charAt 8 = .ok (.getfield 9, 3) := dk_180 0 9 (dk_at dksJ6_charAt_0 8 rfl rfl)
theorem dJ6_charAt_11 : decode cJ6_charAt 11 = .ok (.iload_n 1, 1) := dk_27 (dk_at dksJ6_charAt_0 11 rfl rfl)
theorem dJ6_charAt_12 : decode cJ6_charAt 12 = .ok (.invokestatic 495, 3) := dk_184 1 239 (dk_at dksJ6_charAt_0 12 rfl rfl)
theorem dJ6_charAt_15 : decode cJ6_charAt 15 = .ok (.ireturn, 1) := dk_172 (dk_at dksJ6_charAt_0 15 rfl rfl)
theorem dJ6_charAt_16 : decode cJ6_charAt 16 = .ok (.aload_n 0, 1) := dk_42 (dk_at dksJ6_charAt_0 16 rfl rfl)
theorem dJ6_charAt_17 : decode cJ6_charAt 17 = .ok (.getfield 9, 3) := dk_180 0 9 (dk_at dksJ6_charAt_0 17 rfl rfl)
theorem dJ6_charAt_20 : decode cJ6_charAt 20 = .ok (.iload_n 1, 1) := dk_27 (dk_at dksJ6_charAt_0 20 rfl rfl)
theorem dJ6_charAt_21 : decode cJ6_charAt 21 = .ok (.invokestatic 498, 3) := dk_184 1 242 (dk_at dksJ6_charAt_0 21 rfl rfl)
theorem dJ6_charAt_24 : decode cJ6_charAt 24 = .ok (.ireturn, 1) := dk_172 (dk_at dksJ6_charAt_1 0 rfl rfl)
theorem q147 : (Jvm.Cond.initialized "java/lang/String") ∈ lw_all := lw_g (lw_at lw_m1 15 rfl) rfl
theorem q879 : (Jvm.Cond.laysStatic "java/lang/String" "COMPACT_STRINGS" "Z") ∈ lw_tbl := lw_at lw_m4 27 rfl
theorem q889 : (Jvm.Cond.fieldLink "java/lang/String" (1048 : Nat) "java/lang/AbstractStringBuilder" "maybeLatin1" "Z") ∈ lw_all := lw_g (lw_at lw_m4 37 rfl) rfl
theorem q961 : (Jvm.Cond.static ({ cls := "java/lang/String", name := "checkBoundsOffCount", desc := "(III)I" } : Jvm.MethodName)) ∈ lw_all := lw_g (lw_at lw_m4 109 rfl) rfl
theorem q962 : (Jvm.Cond.code ({ cls := "java/lang/String", name := "checkBoundsOffCount", desc := "(III)I" } : Jvm.MethodName) prog_38_method_157_code (3 : Nat) (Option.some Jvm.ClassFile.FieldType.int)) ∈ lw_all := lw_g (lw_at lw_m4 110 rfl) rfl
theorem q963 : (Jvm.Cond.fieldLink "java/lang/String" (1053 : Nat) "jdk/internal/util/Preconditions" "SIOOBE_FORMATTER" "Ljava/util/function/BiFunction;") ∈ lw_all := lw_g (lw_at lw_m4 111 rfl) rfl
theorem q965 : (Jvm.Cond.methodLink "java/lang/String" (1065 : Nat) ({ cls := "jdk/internal/util/Preconditions", name := "checkFromIndexSize", desc := "(IIILjava/util/function/BiFunction;)I" } : Jvm.MethodName)) ∈ lw_all := lw_g (lw_at lw_m4 113 rfl) rfl
theorem q984 : (Jvm.Cond.static ({ cls := "java/lang/String", name := "checkIndex", desc := "(II)V" } : Jvm.MethodName)) ∈ lw_all := lw_g (lw_at lw_m4 132 rfl) rfl
theorem q985 : (Jvm.Cond.code ({ cls := "java/lang/String", name := "checkIndex", desc := "(II)V" } : Jvm.MethodName) prog_38_method_155_code (2 : Nat) (Option.none : Option Jvm.ClassFile.FieldType)) ∈ lw_all := lw_g (lw_at lw_m4 133 rfl) rfl
theorem q986 : (Jvm.Cond.methodLink "java/lang/String" (1059 : Nat) ({ cls := "jdk/internal/util/Preconditions", name := "checkIndex", desc := "(IILjava/util/function/BiFunction;)I" } : Jvm.MethodName)) ∈ lw_all := lw_g (lw_at lw_m4 134 rfl) rfl
theorem q992 : (Jvm.Cond.instantiable "java/lang/String" (4 : Nat)) ∈ lw_all := lw_g (lw_at lw_m4 140 rfl) rfl
theorem q994 : (Jvm.Cond.instanceMethod ({ cls := "java/lang/String", name := "<init>", desc := "(Ljava/lang/StringBuilder;)V" } : Jvm.MethodName)) ∈ lw_all := lw_g (lw_at lw_m4 142 rfl) rfl
theorem q995 : (Jvm.Cond.code ({ cls := "java/lang/String", name := "<init>", desc := "(Ljava/lang/StringBuilder;)V" } : Jvm.MethodName) prog_38_method_53_code (2 : Nat) (Option.none : Option Jvm.ClassFile.FieldType)) ∈ lw_all := lw_g (lw_at lw_m4 143 rfl) rfl
theorem q996 : (Jvm.Cond.methodLink "java/lang/String" (489 : Nat) ({ cls := "java/lang/String", name := "<init>", desc := "(Ljava/lang/AbstractStringBuilder;Ljava/lang/Void;)V" } : Jvm.MethodName)) ∈ lw_all := lw_g (lw_at lw_m4 144 rfl) rfl
theorem q997 : (Jvm.Cond.instanceMethod ({ cls := "java/lang/String", name := "<init>", desc := "(Ljava/lang/AbstractStringBuilder;Ljava/lang/Void;)V" } : Jvm.MethodName)) ∈ lw_all := lw_g (lw_at lw_m4 145 rfl) rfl
theorem q998 : (Jvm.Cond.code ({ cls := "java/lang/String", name := "<init>", desc := "(Ljava/lang/AbstractStringBuilder;Ljava/lang/Void;)V" } : Jvm.MethodName) prog_38_method_150_code (5 : Nat) (Option.none : Option Jvm.ClassFile.FieldType)) ∈ lw_all := lw_g (lw_at lw_m4 146 rfl) rfl
theorem q999 : (Jvm.Cond.methodLink "java/lang/String" (1 : Nat) ({ cls := "java/lang/Object", name := "<init>", desc := "()V" } : Jvm.MethodName)) ∈ lw_all := lw_g (lw_at lw_m4 147 rfl) rfl
theorem q1000 : (Jvm.Cond.methodLink "java/lang/String" (552 : Nat) ({ cls := "java/lang/AbstractStringBuilder", name := "getValue", desc := "()[B" } : Jvm.MethodName)) ∈ lw_all := lw_g (lw_at lw_m4 148 rfl) rfl
theorem q1005 : (Jvm.Cond.methodLink "java/lang/String" (549 : Nat) ({ cls := "java/lang/AbstractStringBuilder", name := "length", desc := "()I" } : Jvm.MethodName)) ∈ lw_all := lw_g (lw_at lw_m4 153 rfl) rfl
theorem q1013 : (Jvm.Cond.methodLink "java/lang/String" (1047 : Nat) ({ cls := "java/lang/AbstractStringBuilder", name := "isLatin1", desc := "()Z" } : Jvm.MethodName)) ∈ lw_all := lw_g (lw_at lw_m4 161 rfl) rfl
theorem q1014 : (Jvm.Cond.methodLink "java/lang/String" (54 : Nat) ({ cls := "java/util/Arrays", name := "copyOfRange", desc := "([BII)[B" } : Jvm.MethodName)) ∈ lw_all := lw_g (lw_at lw_m4 162 rfl) rfl
theorem q1094 : (Jvm.Cond.static ({ cls := "java/lang/String", name := "checkBoundsBeginEnd", desc := "(III)V" } : Jvm.MethodName)) ∈ lw_all := lw_g (lw_at lw_m5 2 rfl) rfl
theorem q1095 : (Jvm.Cond.code ({ cls := "java/lang/String", name := "checkBoundsBeginEnd", desc := "(III)V" } : Jvm.MethodName) prog_38_method_158_code (3 : Nat) (Option.none : Option Jvm.ClassFile.FieldType)) ∈ lw_all := lw_g (lw_at lw_m5 3 rfl) rfl
theorem q1096 : (Jvm.Cond.methodLink "java/lang/String" (1062 : Nat) ({ cls := "jdk/internal/util/Preconditions", name := "checkFromToIndex", desc := "(IIILjava/util/function/BiFunction;)I" } : Jvm.MethodName)) ∈ lw_all := lw_g (lw_at lw_m5 4 rfl) rfl
theorem q1120 : (Jvm.Cond.instanceMethod ({ cls := "java/lang/String", name := "length", desc := "()I" } : Jvm.MethodName)) ∈ lw_all := lw_g (lw_at lw_m5 28 rfl) rfl
theorem q1121 : (Jvm.Cond.selects "java/lang/String" ({ cls := "java/lang/String", name := "length", desc := "()I" } : Jvm.MethodName) ({ cls := "java/lang/String", name := "length", desc := "()I" } : Jvm.MethodName)) ∈ lw_all := lw_g (lw_at lw_m5 29 rfl) rfl
theorem q1122 : (Jvm.Cond.code ({ cls := "java/lang/String", name := "length", desc := "()I" } : Jvm.MethodName) prog_38_method_54_code (1 : Nat) (Option.some Jvm.ClassFile.FieldType.int)) ∈ lw_all := lw_g (lw_at lw_m5 30 rfl) rfl
theorem q1123 : (Jvm.Cond.methodLink "java/lang/String" (335 : Nat) ({ cls := "java/lang/String", name := "coder", desc := "()B" } : Jvm.MethodName)) ∈ lw_all := lw_g (lw_at lw_m5 31 rfl) rfl
theorem q1124 : (Jvm.Cond.instanceMethod ({ cls := "java/lang/String", name := "coder", desc := "()B" } : Jvm.MethodName)) ∈ lw_all := lw_g (lw_at lw_m5 32 rfl) rfl
theorem q1125 : (Jvm.Cond.selects "java/lang/String" ({ cls := "java/lang/String", name := "coder", desc := "()B" } : Jvm.MethodName) ({ cls := "java/lang/String", name := "coder", desc := "()B" } : Jvm.MethodName)) ∈ lw_all := lw_g (lw_at lw_m5 33 rfl) rfl
theorem q1126 : (Jvm.Cond.code ({ cls := "java/lang/String", name := "coder", desc := "()B" } : Jvm.MethodName) prog_38_method_152_code (1 : Nat) (Option.some Jvm.ClassFile.FieldType.byte)) ∈ lw_all := lw_g (lw_at lw_m5 34 rfl) rfl
theorem q1127 : (Jvm.Cond.fieldLink "java/lang/String" (38 : Nat) "java/lang/String" "COMPACT_STRINGS" "Z") ∈ lw_all := lw_g (lw_at lw_m5 35 rfl) rfl
theorem q1138 : (Jvm.Cond.instanceMethod ({ cls := "java/lang/String", name := "getBytes", desc := "([BIB)V" } : Jvm.MethodName)) ∈ lw_all := lw_g (lw_at lw_m5 46 rfl) rfl
theorem q1139 : (Jvm.Cond.selects "java/lang/String" ({ cls := "java/lang/String", name := "getBytes", desc := "([BIB)V" } : Jvm.MethodName) ({ cls := "java/lang/String", name := "getBytes", desc := "([BIB)V" } : Jvm.MethodName)) ∈ lw_all := lw_g (lw_at lw_m5 47 rfl) rfl
theorem q1140 : (Jvm.Cond.code ({ cls := "java/lang/String", name := "getBytes", desc := "([BIB)V" } : Jvm.MethodName) prog_38_method_147_code (4 : Nat) (Option.none : Option Jvm.ClassFile.FieldType)) ∈ lw_all := lw_g (lw_at lw_m5 48 rfl) rfl
theorem q1141 : (Jvm.Cond.methodLink "java/lang/String" (212 : Nat) ({ cls := "java/lang/System", name := "arraycopy", desc := "(Ljava/lang/Object;ILjava/lang/Object;II)V" } : Jvm.MethodName)) ∈ lw_all := lw_g (lw_at lw_m5 49 rfl) rfl
theorem q1142 : (Jvm.Cond.methodLink "java/lang/String" (106 : Nat) ({ cls := "java/lang/StringLatin1", name := "inflate", desc := "([BI[BII)V" } : Jvm.MethodName)) ∈ lw_all := lw_g (lw_at lw_m5 50 rfl) rfl
theorem q1169 : (Jvm.Cond.methodLink "java/lang/String" (1051 : Nat) ({ cls := "java/lang/StringUTF16", name := "compress", desc := "([BII)[B" } : Jvm.MethodName)) ∈ lw_all := lw_g (lw_at lw_m5 77 rfl) rfl
theorem q1179 : (Jvm.Cond.methodLink "java/lang/String" (47 : Nat) ({ cls := "java/lang/StringUTF16", name := "coderFromArrayLen", desc := "([BI)B" } : Jvm.MethodName)) ∈ lw_all := lw_g (lw_at lw_m5 87 rfl) rfl
theorem q1182 : (Jvm.Cond.fieldLink "java/lang/String" (9 : Nat) "java/lang/String" "value" "[B") ∈ lw_all := lw_g (lw_at lw_m5 90 rfl) rfl
theorem q1183 : (Jvm.Cond.fieldLink "java/lang/String" (15 : Nat) "java/lang/String" "coder" "B") ∈ lw_all := lw_g (lw_at lw_m5 91 rfl) rfl
theorem q1184 : (Jvm.Cond.fieldLink "java/lang/String" (19 : Nat) "java/lang/String" "hash" "I") ∈ lw_all := lw_g (lw_at lw_m5 92 rfl) rfl
theorem q1185 : (Jvm.Cond.fieldLink "java/lang/String" (23 : Nat) "java/lang/String" "hashIsZero" "Z") ∈ lw_all := lw_g (lw_at lw_m5 93 rfl) rfl
theorem q1186 : (Jvm.Cond.laysFinal "java/lang/String" "java/lang/String" "value" "[B") ∈ lw_all := lw_g (lw_at lw_m5 94 rfl) rfl
theorem q1187 : (Jvm.Cond.soleField "java/lang/String" "value") ∈ lw_all := lw_g (lw_at lw_m5 95 rfl) rfl
theorem q1188 : (Jvm.Cond.laysFinal "java/lang/String" "java/lang/String" "coder" "B") ∈ lw_all := lw_g (lw_at lw_m5 96 rfl) rfl
theorem q1189 : (Jvm.Cond.soleField "java/lang/String" "coder") ∈ lw_all := lw_g (lw_at lw_m5 97 rfl) rfl
theorem q1190 : (Jvm.Cond.lays "java/lang/String" "java/lang/String" "hash" "I") ∈ lw_all := lw_g (lw_at lw_m5 98 rfl) rfl
theorem q1191 : (Jvm.Cond.soleField "java/lang/String" "hash") ∈ lw_all := lw_g (lw_at lw_m5 99 rfl) rfl
theorem q1192 : (Jvm.Cond.lays "java/lang/String" "java/lang/String" "hashIsZero" "Z") ∈ lw_all := lw_g (lw_at lw_m5 100 rfl) rfl
theorem q1193 : (Jvm.Cond.soleField "java/lang/String" "hashIsZero") ∈ lw_all := lw_g (lw_at lw_m5 101 rfl) rfl
theorem q1194 : (Jvm.Cond.superclass "java/lang/String" "java/lang/Object") ∈ lw_all := lw_g (lw_at lw_m5 102 rfl) rfl
theorem q1224 : (Jvm.Cond.instanceMethod ({ cls := "java/lang/String", name := "hashCode", desc := "()I" } : Jvm.MethodName)) ∈ lw_all := lw_g (lw_at lw_m5 132 rfl) rfl
theorem q1225 : (Jvm.Cond.selects "java/lang/String" ({ cls := "java/lang/String", name := "hashCode", desc := "()I" } : Jvm.MethodName) ({ cls := "java/lang/String", name := "hashCode", desc := "()I" } : Jvm.MethodName)) ∈ lw_all := lw_g (lw_at lw_m5 133 rfl) rfl
theorem q1226 : (Jvm.Cond.code ({ cls := "java/lang/String", name := "hashCode", desc := "()I" } : Jvm.MethodName) prog_38_method_78_code (2 : Nat) (Option.some Jvm.ClassFile.FieldType.int)) ∈ lw_all := lw_g (lw_at lw_m5 134 rfl) rfl
theorem q1227 : (Jvm.Cond.methodLink "java/lang/String" (492 : Nat) ({ cls := "java/lang/String", name := "isLatin1", desc := "()Z" } : Jvm.MethodName)) ∈ lw_all := lw_g (lw_at lw_m5 135 rfl) rfl
theorem q1228 : (Jvm.Cond.instanceMethod ({ cls := "java/lang/String", name := "isLatin1", desc := "()Z" } : Jvm.MethodName)) ∈ lw_all := lw_g (lw_at lw_m5 136 rfl) rfl
theorem q1229 : (Jvm.Cond.selects "java/lang/String" ({ cls := "java/lang/String", name := "isLatin1", desc := "()Z" } : Jvm.MethodName) ({ cls := "java/lang/String", name := "isLatin1", desc := "()Z" } : Jvm.MethodName)) ∈ lw_all := lw_g (lw_at lw_m5 137 rfl) rfl
theorem q1230 : (Jvm.Cond.code ({ cls := "java/lang/String", name := "isLatin1", desc := "()Z" } : Jvm.MethodName) prog_38_method_154_code (1 : Nat) (Option.some Jvm.ClassFile.FieldType.boolean)) ∈ lw_all := lw_g (lw_at lw_m5 138 rfl) rfl
theorem q1231 : (Jvm.Cond.methodLink "java/lang/String" (628 : Nat) ({ cls := "java/lang/StringLatin1", name := "hashCode", desc := "([B)I" } : Jvm.MethodName)) ∈ lw_all := lw_g (lw_at lw_m5 139 rfl) rfl
theorem q1280 : (Jvm.Cond.methodLink "java/lang/String" (632 : Nat) ({ cls := "java/lang/StringUTF16", name := "hashCode", desc := "([B)I" } : Jvm.MethodName)) ∈ lw_all := lw_g (lw_at lw_m5 188 rfl) rfl
theorem q1286 : (Jvm.Cond.instanceMethod ({ cls := "java/lang/String", name := "equals", desc := "(Ljava/lang/Object;)Z" } : Jvm.MethodName)) ∈ lw_all := lw_g (lw_at lw_m5 194 rfl) rfl
theorem q1287 : (Jvm.Cond.selects "java/lang/String" ({ cls := "java/lang/String", name := "equals", desc := "(Ljava/lang/Object;)Z" } : Jvm.MethodName) ({ cls := "java/lang/String", name := "equals", desc := "(Ljava/lang/Object;)Z" } : Jvm.MethodName)) ∈ lw_all := lw_g (lw_at lw_m5 195 rfl) rfl
theorem q1288 : (Jvm.Cond.code ({ cls := "java/lang/String", name := "equals", desc := "(Ljava/lang/Object;)Z" } : Jvm.MethodName) prog_38_method_66_code (3 : Nat) (Option.some Jvm.ClassFile.FieldType.boolean)) ∈ lw_all := lw_g (lw_at lw_m5 196 rfl) rfl
theorem q1289 : (Jvm.Cond.classLink "java/lang/String" (10 : Nat) "java/lang/String") ∈ lw_all := lw_g (lw_at lw_m5 197 rfl) rfl
theorem q1290 : (Jvm.Cond.methodLink "java/lang/String" (541 : Nat) ({ cls := "java/lang/StringLatin1", name := "equals", desc := "([B[B)Z" } : Jvm.MethodName)) ∈ lw_all := lw_g (lw_at lw_m5 198 rfl) rfl
theorem q1596 : (Jvm.Cond.selects "java/lang/String" ({ cls := "java/lang/Object", name := "getClass", desc := "()Ljava/lang/Class;" } : Jvm.MethodName) ({ cls := "java/lang/Object", name := "getClass", desc := "()Ljava/lang/Class;" } : Jvm.MethodName)) ∈ lw_all := lw_g (lw_at lw_m7 24 rfl) rfl
theorem q2227 : (Jvm.Cond.instanceMethod ({ cls := "java/lang/String", name := "charAt", desc := "(I)C" } : Jvm.MethodName)) ∈ lw_all := lw_g (lw_at lw_m9 175 rfl) rfl
theorem q2228 : (Jvm.Cond.selects "java/lang/String" ({ cls := "java/lang/String", name := "charAt", desc := "(I)C" } : Jvm.MethodName) ({ cls := "java/lang/String", name := "charAt", desc := "(I)C" } : Jvm.MethodName)) ∈ lw_all := lw_g (lw_at lw_m9 176 rfl) rfl
theorem q2229 : (Jvm.Cond.code ({ cls := "java/lang/String", name := "charAt", desc := "(I)C" } : Jvm.MethodName) prog_38_method_56_code (2 : Nat) (Option.some Jvm.ClassFile.FieldType.char)) ∈ lw_all := lw_g (lw_at lw_m9 177 rfl) rfl
theorem q2230 : (Jvm.Cond.methodLink "java/lang/String" (495 : Nat) ({ cls := "java/lang/StringLatin1", name := "charAt", desc := "([BI)C" } : Jvm.MethodName)) ∈ lw_all := lw_g (lw_at lw_m9 178 rfl) rfl
theorem q2234 : (Jvm.Cond.methodLink "java/lang/String" (498 : Nat) ({ cls := "java/lang/StringUTF16", name := "charAt", desc := "([BI)C" } : Jvm.MethodName)) ∈ lw_all := lw_g (lw_at lw_m9 182 rfl) rfl
theorem q2766 : (Jvm.Cond.castable "java/lang/String" "java/lang/Object") ∈ lw_tbl := lw_at lw_m11 234 rfl
theorem in_J6 : ∀ w ∈ wsJ60, w ∈ lw_all := lw_in wsJ60 [1186, 1188, 1190, 1192] (by decide +kernel) (by decide +kernel)

/-! java/lang/StringLatin1 -/
set_option maxRecDepth 100000
def RJ10 : String := "java/lang/StringLatin1"
abbrev cJ10_charAt : ByteArray := prog_40_method_2_code
def yJ10_charAt : MethodName := ⟨RJ10, "charAt", "([BI)C"⟩
def dkwJ10_charAt_0 : List UInt8 := [27, 42, 190, 184, 0, 9, 42, 27, 51, 17, 0, 255, 126, 146, 172]
abbrev dktJ10_charAt_0 : List UInt8 := dkwJ10_charAt_0 ++ []
theorem dksJ10_charAt_0 : cJ10_charAt.data.toList.drop 0 = dktJ10_charAt_0 := by decide +kernel
theorem dJ10_charAt_0 : decode cJ10_charAt 0 = .ok (.iload_n 1, 1) := dk_27 (dk_at dksJ10_charAt_0 0 rfl rfl)
theorem dJ10_charAt_1 : decode cJ10_charAt 1 = .ok (.aload_n 0, 1) := dk_42 (dk_at dksJ10_charAt_0 1 rfl rfl)
theorem dJ10_charAt_2 : decode cJ10_charAt 2 = .ok (.arraylength, 1) := dk_190 (dk_at dksJ10_charAt_0 2 rfl rfl)
theorem dJ10_charAt_3 : decode cJ10_charAt 3 = .ok (.invokestatic 9, 3) := dk_184 0 9 (dk_at dksJ10_charAt_0 3 rfl rfl)
theorem dJ10_charAt_6 : decode cJ10_charAt 6 = .ok (.aload_n 0, 1) := dk_42 (dk_at dksJ10_charAt_0 6 rfl rfl)
theorem dJ10_charAt_7 : decode cJ10_charAt 7 = .ok (.iload_n 1, 1) := dk_27 (dk_at dksJ10_charAt_0 7 rfl rfl)
theorem dJ10_charAt_8 : decode cJ10_charAt 8 = .ok (.baload, 1) := dk_51 (dk_at dksJ10_charAt_0 8 rfl rfl)
theorem dJ10_charAt_9 : decode cJ10_charAt 9 = .ok (.sipush 255, 3) := dk_17 0 255 (dk_at dksJ10_charAt_0 9 rfl rfl)
theorem dJ10_charAt_12 : decode cJ10_charAt 12 = .ok (.iand, 1) := dk_126 (dk_at dksJ10_charAt_0 12 rfl rfl)
theorem dJ10_charAt_13 : decode cJ10_charAt 13 = .ok (.i2c, 1) := dk_146 (dk_at dksJ10_charAt_0 13 rfl rfl)
theorem dJ10_charAt_14 : decode cJ10_charAt 14 = .ok (.ireturn, 1) := dk_172 (dk_at dksJ10_charAt_0 14 rfl rfl)
theorem q151 : (Jvm.Cond.initialized "java/lang/StringLatin1") ∈ lw_all := lw_g (lw_at lw_m1 19 rfl) rfl
theorem q942 : (Jvm.Cond.static ({ cls := "java/lang/StringLatin1", name := "canEncode", desc := "(C)Z" } : Jvm.MethodName)) ∈ lw_all := lw_g (lw_at lw_m4 90 rfl) rfl
theorem q943 : (Jvm.Cond.code ({ cls := "java/lang/StringLatin1", name := "canEncode", desc := "(C)Z" } : Jvm.MethodName) prog_40_method_3_code (1 : Nat) (Option.some Jvm.ClassFile.FieldType.boolean)) ∈ lw_all := lw_g (lw_at lw_m4 91 rfl) rfl
theorem q949 : (Jvm.Cond.static ({ cls := "java/lang/StringLatin1", name := "inflate", desc := "([BI[BII)V" } : Jvm.MethodName)) ∈ lw_all := lw_g (lw_at lw_m4 97 rfl) rfl
theorem q950 : (Jvm.Cond.code ({ cls := "java/lang/StringLatin1", name := "inflate", desc := "([BI[BII)V" } : Jvm.MethodName) prog_40_method_50_code (5 : Nat) (Option.none : Option Jvm.ClassFile.FieldType)) ∈ lw_all := lw_g (lw_at lw_m4 98 rfl) rfl
theorem q951 : (Jvm.Cond.methodLink "java/lang/StringLatin1" (240 : Nat) ({ cls := "java/lang/StringUTF16", name := "inflate", desc := "([BI[BII)V" } : Jvm.MethodName)) ∈ lw_all := lw_g (lw_at lw_m4 99 rfl) rfl
theorem q1232 : (Jvm.Cond.static ({ cls := "java/lang/StringLatin1", name := "hashCode", desc := "([B)I" } : Jvm.MethodName)) ∈ lw_all := lw_g (lw_at lw_m5 140 rfl) rfl
theorem q1233 : (Jvm.Cond.code ({ cls := "java/lang/StringLatin1", name := "hashCode", desc := "([B)I" } : Jvm.MethodName) prog_40_method_21_code (1 : Nat) (Option.some Jvm.ClassFile.FieldType.int)) ∈ lw_all := lw_g (lw_at lw_m5 141 rfl) rfl
theorem q1234 : (Jvm.Cond.methodLink "java/lang/StringLatin1" (84 : Nat) ({ cls := "jdk/internal/util/ArraysSupport", name := "vectorizedHashCode", desc := "(Ljava/lang/Object;IIII)I" } : Jvm.MethodName)) ∈ lw_all := lw_g (lw_at lw_m5 142 rfl) rfl
theorem q1291 : (Jvm.Cond.static ({ cls := "java/lang/StringLatin1", name := "equals", desc := "([B[B)Z" } : Jvm.MethodName)) ∈ lw_all := lw_g (lw_at lw_m5 199 rfl) rfl
theorem q1292 : (Jvm.Cond.code ({ cls := "java/lang/StringLatin1", name := "equals", desc := "([B[B)Z" } : Jvm.MethodName) prog_40_method_13_code (3 : Nat) (Option.some Jvm.ClassFile.FieldType.boolean)) ∈ lw_all := lw_g (lw_at lw_m5 200 rfl) rfl
theorem q2231 : (Jvm.Cond.static ({ cls := "java/lang/StringLatin1", name := "charAt", desc := "([BI)C" } : Jvm.MethodName)) ∈ lw_all := lw_g (lw_at lw_m9 179 rfl) rfl
theorem q2232 : (Jvm.Cond.code ({ cls := "java/lang/StringLatin1", name := "charAt", desc := "([BI)C" } : Jvm.MethodName) prog_40_method_2_code (2 : Nat) (Option.some Jvm.ClassFile.FieldType.char)) ∈ lw_all := lw_g (lw_at lw_m9 180 rfl) rfl
theorem q2233 : (Jvm.Cond.methodLink "java/lang/StringLatin1" (9 : Nat) ({ cls := "java/lang/String", name := "checkIndex", desc := "(II)V" } : Jvm.MethodName)) ∈ lw_all := lw_g (lw_at lw_m9 181 rfl) rfl

/-! jdk/internal/util/Preconditions -/
set_option maxRecDepth 100000
def RJ11 : String := "jdk/internal/util/Preconditions"
abbrev cJ11_checkIndex : ByteArray := prog_60_method_11_code
def yJ11_checkIndex : MethodName := ⟨RJ11, "checkIndex", "(IILjava/util/function/BiFunction;)I"⟩
def dkwJ11_checkIndex_0 : List UInt8 := [26, 155, 0, 8, 26, 27, 161, 0, 10, 44, 26, 27, 184, 0, 95, 191, 26, 172]
abbrev dktJ11_checkIndex_0 : List UInt8 := dkwJ11_checkIndex_0 ++ []
theorem dksJ11_checkIndex_0 : cJ11_checkIndex.data.toList.drop 0 = dktJ11_checkIndex_0 := by decide +kernel
theorem dJ11_checkIndex_0 : decode cJ11_checkIndex 0 = .ok (.iload_n 0, 1) := dk_26 (dk_at dksJ11_checkIndex_0 0 rfl rfl)
theorem dJ11_checkIndex_1 : decode cJ11_checkIndex 1 = .ok (.ifCond .lt 8, 3) := dk_155 0 8 (dk_at dksJ11_checkIndex_0 1 rfl rfl)
theorem dJ11_checkIndex_4 : decode cJ11_checkIndex 4 = .ok (.iload_n 0, 1) := dk_26 (dk_at dksJ11_checkIndex_0 4 rfl rfl)
theorem dJ11_checkIndex_5 : decode cJ11_checkIndex 5 = .ok (.iload_n 1, 1) := dk_27 (dk_at dksJ11_checkIndex_0 5 rfl rfl)
theorem dJ11_checkIndex_6 : decode cJ11_checkIndex 6 = .ok (.if_icmp .lt 10, 3) := dk_161 0 10 (dk_at dksJ11_checkIndex_0 6 rfl rfl)
theorem dJ11_checkIndex_9 : decode cJ11_checkIndex 9 = .ok (.aload_n 2, 1) := dk_44 (dk_at dksJ11_checkIndex_0 9 rfl rfl)
theorem dJ11_checkIndex_10 : decode cJ11_checkIndex 10 = .ok (.iload_n 0, 1) := dk_26 (dk_at dksJ11_checkIndex_0 10 rfl rfl)
theorem dJ11_checkIndex_11 : decode cJ11_checkIndex 11 = .ok (.iload_n 1, 1) := dk_27 (dk_at dksJ11_checkIndex_0 11 rfl rfl)
theorem dJ11_checkIndex_12 : decode cJ11_checkIndex 12 = .ok (.invokestatic 95, 3) := dk_184 0 95 (dk_at dksJ11_checkIndex_0 12 rfl rfl)
theorem dJ11_checkIndex_15 : decode cJ11_checkIndex 15 = .ok (.athrow, 1) := dk_191 (dk_at dksJ11_checkIndex_0 15 rfl rfl)
theorem dJ11_checkIndex_16 : decode cJ11_checkIndex 16 = .ok (.iload_n 0, 1) := dk_26 (dk_at dksJ11_checkIndex_0 16 rfl rfl)
theorem dJ11_checkIndex_17 : decode cJ11_checkIndex 17 = .ok (.ireturn, 1) := dk_172 (dk_at dksJ11_checkIndex_0 17 rfl rfl)
theorem q152 : (Jvm.Cond.initialized "jdk/internal/util/Preconditions") ∈ lw_all := lw_g (lw_at lw_m1 20 rfl) rfl
theorem q609 : (Jvm.Cond.static ({ cls := "jdk/internal/util/Preconditions", name := "checkIndex", desc := "(IILjava/util/function/BiFunction;)I" } : Jvm.MethodName)) ∈ lw_all := lw_g (lw_at lw_m2 237 rfl) rfl
theorem q610 : (Jvm.Cond.code ({ cls := "jdk/internal/util/Preconditions", name := "checkIndex", desc := "(IILjava/util/function/BiFunction;)I" } : Jvm.MethodName) prog_60_method_11_code (3 : Nat) (Option.some Jvm.ClassFile.FieldType.int)) ∈ lw_all := lw_g (lw_at lw_m2 238 rfl) rfl
theorem q964 : (Jvm.Cond.laysStatic "jdk/internal/util/Preconditions" "SIOOBE_FORMATTER" "Ljava/util/function/BiFunction;") ∈ lw_tbl := lw_at lw_m4 112 rfl
theorem q966 : (Jvm.Cond.static ({ cls := "jdk/internal/util/Preconditions", name := "checkFromIndexSize", desc := "(IIILjava/util/function/BiFunction;)I" } : Jvm.MethodName)) ∈ lw_all := lw_g (lw_at lw_m4 114 rfl) rfl
theorem q967 : (Jvm.Cond.code ({ cls := "jdk/internal/util/Preconditions", name := "checkFromIndexSize", desc := "(IIILjava/util/function/BiFunction;)I" } : Jvm.MethodName) prog_60_method_13_code (4 : Nat) (Option.some Jvm.ClassFile.FieldType.int)) ∈ lw_all := lw_g (lw_at lw_m4 115 rfl) rfl
theorem q1097 : (Jvm.Cond.static ({ cls := "jdk/internal/util/Preconditions", name := "checkFromToIndex", desc := "(IIILjava/util/function/BiFunction;)I" } : Jvm.MethodName)) ∈ lw_all := lw_g (lw_at lw_m5 5 rfl) rfl
theorem q1098 : (Jvm.Cond.code ({ cls := "jdk/internal/util/Preconditions", name := "checkFromToIndex", desc := "(IIILjava/util/function/BiFunction;)I" } : Jvm.MethodName) prog_60_method_12_code (4 : Nat) (Option.some Jvm.ClassFile.FieldType.int)) ∈ lw_all := lw_g (lw_at lw_m5 6 rfl) rfl

/-! GENERAL WORDS: flat memories, loads and stores with their bounds, loops as a step function, naming -/
abbrev Mm : Type := Nat → Nat → Int32
def mup (τ : Mm) (k j : Nat) (x : Int32) : Mm := fun a => if a = k then upd (τ a) j x else τ a
def inb (i : Int32) (n : Nat) : Bool := !(decide (i < 0)) && decide (i.toNatClampNeg < n)
theorem inb_in {i : Int32} {n : Nat} (h : inb i n = true) : vp_in i n := by
  unfold inb at h
  simp only [Bool.and_eq_true, Bool.not_eq_true', decide_eq_false_iff_not, decide_eq_true_eq] at h
  intro q
  rcases q with q | q
  · exact h.1 q
  · omega
/-- a load with its bounds -/
def ld (n : Nat) (f : Nat → Int32) (i : Int32) : Option Int32 := if inb i n = true then some (f i.toNatClampNeg) else none
theorem ld_e {n : Nat} {f : Nat → Int32} {i x : Int32} (h : ld n f i = some x) : vp_in i n ∧ f i.toNatClampNeg = x := by
  unfold ld at h
  by_cases c : inb i n = true
  · rw [if_pos c] at h
    exact ⟨inb_in c, Option.some.inj h⟩
  · rw [if_neg c] at h
    cases h
/-- a store with its bounds -/
def sto (n : Nat) (τ : Mm) (k : Nat) (i x : Int32) : Option Mm := if inb i n = true then some (mup τ k i.toNatClampNeg x) else none
theorem sto_e {n k : Nat} {τ τ' : Mm} {i x : Int32} (h : sto n τ k i x = some τ') : vp_in i n ∧ mup τ k i.toNatClampNeg x = τ' := by
  unfold sto at h
  by_cases c : inb i n = true
  · rw [if_pos c] at h
    exact ⟨inb_in c, Option.some.inj h⟩
  · rw [if_neg c] at h
    cases h
/-- 0 or 1 -/
def zb (x : Int32) : Option Int32 := if x = 0 ∨ x = 1 then some x else none
theorem zb_e {x y : Int32} (h : zb x = some y) : y = x ∧ (x = 0 ∨ x = 1) := by
  unfold zb at h
  by_cases c : x = 0 ∨ x = 1
  · rw [if_pos c] at h
    exact ⟨(Option.some.inj h).symm, c⟩
  · rw [if_neg c] at h
    cases h
theorem zb_n {x : Int32} (h : x = 0 ∨ x = 1) : narrow .boolean (.int x) = .int x := by
  rcases h with h | h <;> (rw [h]; rfl)
theorem zb_f {x : Int32} (h : x = 0 ∨ x = 1) : fits .boolean (.int x) = true := by
  rcases h with h | h <;> (rw [h]; rfl)
/-- a divisor that isn't 0 -/
def dnz (y : Int32) : Option Int32 := if y = 0 then none else some y
theorem dnz_e {y z : Int32} (h : dnz y = some z) : z = y ∧ ¬ y = 0 := by
  unfold dnz at h
  by_cases c : y = 0
  · rw [if_pos c] at h; cases h
  · rw [if_neg c] at h
    exact ⟨(Option.some.inj h).symm, c⟩
def dnzL (y : Int64) : Option Int64 := if y = 0 then none else some y
theorem dnzL_e {y z : Int64} (h : dnzL y = some z) : z = y ∧ ¬ y = 0 := by
  unfold dnzL at h
  by_cases c : y = 0
  · rw [if_pos c] at h; cases h
  · rw [if_neg c] at h
    exact ⟨(Option.some.inj h).symm, c⟩
theorem obd {α β : Type} {a : Option α} {f : α → Option β} {r : β} (h : a.bind f = some r) : ∃ x, a = some x ∧ f x = some r := by
  cases a with
  | none => cases h
  | some x => exact ⟨x, rfl, h⟩
theorem ipos {c : Prop} [d : Decidable c] {α : Type} {A B : α} {r : α} (hc : c) (h : (if c then A else B) = r) : A = r := (if_pos hc).symm.trans h
theorem ineg {c : Prop} [d : Decidable c] {α : Type} {A B : α} {r : α} (hc : ¬ c) (h : (if c then A else B) = r) : B = r := (if_neg hc).symm.trans h
/-- a loop: its step goes on with a state, or leaves -/
def loopO {S E : Type} (step : S → Option (S ⊕ E)) : Nat → S → Option E
  | 0, _ => none
  | n + 1, s => (step s).bind (fun o => Sum.elim (fun s' => loopO step n s') (fun e => some e) o)
def FU : Nat := 100000
theorem loopO_W {S E : Type} {step : S → Option (S ⊕ E)} {Wat : S → Prop} {Wex : E → Prop} (h : ∀ s o, step s = some o → (∀ s', o = .inl s' → Wat s') → (∀ e, o = .inr e → Wex e) → Wat s) : ∀ (n : Nat) (s : S) (e : E), loopO step n s = some e → Wex e → Wat s := by
  intro n
  induction n with
  | zero => intro s e h1; cases h1
  | succ n ih =>
    intro s e h1 h2
    obtain ⟨o, ho, h3⟩ := obd h1
    refine h s o ho (fun s' eo => ?_) (fun e' eo => ?_)
    · subst eo
      exact ih s' e h3 h2
    · subst eo
      cases h3
      exact h2
theorem sumL {A B C : Type} {f : A → C} {g : B → C} {x : A} {r : C} (h : Sum.elim f g (.inl x) = r) : f x = r := h
theorem sumR {A B C : Type} {f : A → C} {g : B → C} {x : B} {r : C} (h : Sum.elim f g (.inr x) = r) : g x = r := h
theorem iiE {x c v : Int32} {n : Int} (h : some (x + c) = some v) (hc : c = Int32.ofInt n) : x + Int32.ofInt n = v := by
  rw [← hc]; exact Option.some.inj h
section GROWS
variable {p : Program} {l : Launch} {e : Env} {R : Room} {s : State} {m : MethodId} {args : Array Value} {below : List Frame} {meth : Method} {c : Code} {H : Heap} {locs : List Loc} {cells slots : Nat} {Q : State → Prop} {pc : Nat} {ls : Array Slot} {rest : List Value}
/-- a computed number gets its name -/
theorem nmI {x v : Int32} (hv : some x = some v) (k : W p l e R s m args below meth c H locs cells slots Q (F0 m pc ls (.int v :: rest))) : W p l e R s m args below meth c H locs cells slots Q (F0 m pc ls (.int x :: rest)) := by
  cases hv; exact k
theorem nmL {x v : Int64} (hv : some x = some v) (k : W p l e R s m args below meth c H locs cells slots Q (F0 m pc ls (.long v :: rest))) : W p l e R s m args below meth c H locs cells slots Q (F0 m pc ls (.long x :: rest)) := by
  cases hv; exact k
end GROWS
/-- System.arraycopy of ints, with its bounds -/
def mset (τ : Mm) (k : Nat) (f : Nat → Int32) : Mm := fun a => if a = k then f else τ a
def acp (n0 n1 : Nat) (f g : Nat → Int32) (sp dp n : Int32) : Option (Nat → Int32) := if ¬ sp < 0 ∧ ¬ dp < 0 ∧ ¬ n < 0 ∧ sp.toNatClampNeg + n.toNatClampNeg ≤ n0 ∧ dp.toNatClampNeg + n.toNatClampNeg ≤ n1 then some (va_cpy f g sp.toNatClampNeg dp.toNatClampNeg n.toNatClampNeg) else none
theorem acp_e {n0 n1 : Nat} {f g h : Nat → Int32} {sp dp n : Int32} (e : acp n0 n1 f g sp dp n = some h) : (¬ sp < 0 ∧ ¬ dp < 0 ∧ ¬ n < 0 ∧ sp.toNatClampNeg + n.toNatClampNeg ≤ n0 ∧ dp.toNatClampNeg + n.toNatClampNeg ≤ n1) ∧ va_cpy f g sp.toNatClampNeg dp.toNatClampNeg n.toNatClampNeg = h := by
  unfold acp at e
  by_cases c : ¬ sp < 0 ∧ ¬ dp < 0 ∧ ¬ n < 0 ∧ sp.toNatClampNeg + n.toNatClampNeg ≤ n0 ∧ dp.toNatClampNeg + n.toNatClampNeg ≤ n1
  · rw [if_pos c] at e
    exact ⟨c, Option.some.inj e⟩
  · rw [if_neg c] at e
    cases e

/-! STRING CONSTANTS: their texts, and where the classes name them -/
def nS : Nat := 32
def lenS : List Nat := [3, 25, 5, 3, 4, 4, 4, 5, 4, 3, 5, 5, 4, 2, 3, 4, 2, 3, 6, 6, 6, 6, 2, 3, 7, 6, 3, 2, 4, 4, 4, 6]
def bytS : List (List Int32) := [[32, 62, 32], [117, 110, 114, 101, 99, 111, 103, 110, 105, 122, 101, 100, 32, 98, 97, 115, 105, 99, 32, 116, 121, 112, 101, 58, 32], [112, 97, 114, 116, 121], [105, 110, 107], [100, 101, 101, 100], [100, 97, 109, 112], [115, 97, 108, 116], [115, 112, 114, 97, 121], [116, 105, 109, 101], [97, 103, 101], [107, 101, 101, 112, 115], [115, 111, 97, 107, 115], [102, 114, 111, 109], [116, 111], [115, 117, 109], [116, 101, 114, 109], [111, 110], [98, 117, 116], [115, 112, 114, 105, 110, 103], [115, 117, 109, 109, 101, 114], [97, 117, 116, 117, 109, 110], [119, 105, 110, 116, 101, 114], [105, 102], [110, 111, 116], [108, 101, 97, 110, 105, 110, 103], [98, 97, 114, 114, 101, 100], [97, 110, 100], [111, 114], [114, 105, 112, 101], [115, 108, 111, 119], [99, 111, 115, 116], [115, 101, 97, 115, 111, 110]]
def sitesS : List (String × Nat × String × Nat) := [("java/util/Arrays", 337, " > ", 0), ("jdk/internal/util/ArraysSupport", 92, "unrecognized basic type: ", 1), ("LateInks", 178, "party", 2), ("LateInks", 142, "ink", 3), ("LateInks", 180, "deed", 4), ("LateInks", 182, "damp", 5), ("LateInks", 184, "salt", 6), ("LateInks", 186, "spray", 7), ("LateInks", 188, "time", 8), ("LateInks", 122, "age", 9), ("LateInks", 130, "keeps", 10), ("LateInks", 138, "soaks", 11), ("LateInks", 144, "from", 12), ("LateInks", 146, "to", 13), ("LateInks", 148, "sum", 14), ("LateInks", 150, "term", 15), ("LateInks", 152, "on", 16), ("LateInks", 154, "but", 17), ("LateInks", 170, "spring", 18), ("LateInks", 172, "summer", 19), ("LateInks", 174, "autumn", 20), ("LateInks", 176, "winter", 21), ("LateInks", 340, "if", 22), ("LateInks", 294, "not", 23), ("LateInks", 304, "leaning", 24), ("LateInks", 311, "barred", 25), ("LateInks", 326, "and", 26), ("LateInks", 331, "or", 27), ("LateInksModel", 215, "ripe", 28), ("LateInksModel", 254, "slow", 29), ("LateInksModel", 256, "cost", 30), ("LateInksModel", 258, "if", 22), ("LateInksModel", 235, "not", 23), ("LateInksModel", 222, "leaning", 24), ("LateInksModel", 228, "barred", 25), ("LateInksModel", 167, "deed", 4), ("LateInksModel", 126, "ink", 3), ("LateInksModel", 135, "sum", 14), ("LateInksModel", 217, "season", 31), ("LateInksModel", 172, "damp", 5), ("LateInksModel", 177, "salt", 6), ("LateInksModel", 247, "and", 26), ("LateInksModel", 252, "or", 27), ("LateInksModel", 159, "party", 2), ("LateInksModel", 112, "age", 9), ("LateInksModel", 118, "keeps", 10), ("LateInksModel", 124, "soaks", 11), ("LateInksModel", 128, "from", 12), ("LateInksModel", 130, "to", 13), ("LateInksModel", 137, "term", 15), ("LateInksModel", 139, "on", 16), ("LateInksModel", 141, "but", 17), ("LateInksModel", 151, "spring", 18), ("LateInksModel", 153, "summer", 19), ("LateInksModel", 155, "autumn", 20), ("LateInksModel", 157, "winter", 21), ("LateInksModel", 182, "spray", 7), ("LateInksModel", 184, "time", 8), ("LateInks$Kind", 47, "ripe", 28), ("LateInks$Kind", 53, "slow", 29), ("LateInks$Kind", 56, "cost", 30), ("LateInks$Fact", 59, "deed", 4), ("LateInks$Fact", 65, "ink", 3), ("LateInks$Fact", 68, "sum", 14), ("LateInks$Fact", 71, "ripe", 28), ("LateInks$Fact", 74, "season", 31), ("LateInks$Fact", 77, "damp", 5), ("LateInks$Fact", 80, "salt", 6)]
def StrE (z : Nat) (aK aV : Nat → Nat) (U : State) : Prop :=
  vk_S nS lenS bytS aK aV (fun q => z ≤ q) U U.heap ∧ (∀ (k : Nat) (q : String × Nat × String × Nat), sitesS[k]? = some q → vk_R q.1 q.2.1 q.2.2.1 (aK q.2.2.2) U) ∧ va_Z "java/lang/String" "COMPACT_STRINGS" "Z" (.int 1) (fun q => z ≤ q) U U.heap ∧ va_Zq "jdk/internal/util/Preconditions" "SIOOBE_FORMATTER" "Ljava/util/function/BiFunction;" (fun q => z ≤ q) U U.heap
theorem StrE.go {z : Nat} {aK aV : Nat → Nat} {s U : State} (h : StrE z aK aV s) (hW : s.WarmedH U.vm) (hq : ∀ q : Nat, q < s.heap.size → ¬ z ≤ q → U.heap[q]? = s.heap[q]?) : StrE z aK aV U := by
  obtain ⟨h1, h2, h3, h4⟩ := h
  exact ⟨vk_S.moved hW.alike (h1.kept hq), fun k q hk => vk_R.warm hW (h2 k q hk), va_Z.moved hW.alike (h3.kept hq), va_Zq.moved hW.alike (h4.kept hq)⟩
/-- a constant's address, where a class names it -/
theorem StrE.at {z : Nat} {aK aV : Nat → Nat} {s : State} (h : StrE z aK aV s) (k : Nat) {own tx : String} {idx i : Nat} (hk : sitesS[k]? = some (own, idx, tx, i)) : vk_R own idx tx (aK i) s := h.2.1 k _ hk

/-! STRING CONSTANTS: length and charAt of one, as the JDK's own code -/
theorem bytS_ok : ∀ i, i < nS → ((bytS.getD i []).length = lenS.getD i 0 ∧ lenS.getD i 0 < 100 ∧ ∀ b ∈ bytS.getD i [], b.toInt8.toInt32 = b ∧ b &&& 255 = b ∧ 0 ≤ b ∧ b < 128) := by decide +kernel
theorem getD_mem9 {l : List Int32} {k : Nat} (h : k < l.length) : l.getD k 0 ∈ l := by
  rw [List.getD_eq_getElem?_getD, List.getElem?_eq_getElem h]
  exact List.getElem_mem h
def sLen (i : Nat) : Int32 := nI (lenS.getD i 0)
def sBy (i k : Nat) : Int32 := (bytS.getD i []).getD k 0
def sCh (i : Nat) (k : Int32) : Option Int32 := ld (lenS.getD i 0) (sBy i) k
section KROWS
variable {p : Program} {l : Launch} {e : Env} {R : Room} {s : State} {m : MethodId} {args : Array Value} {below : List Frame} {meth : Method} {c : Code} {H : Heap} {locs : List Loc} {cells slots : Nat} {Q : State → Prop}
variable {cc : ByteArray} {pc : Nat} {ls : Array Slot} {rest : List Value} {z : Nat} {aK aV : Nat → Nat}
theorem va_ldcSw (hexec : p.tables.exec = Jvm.exec) (hb : c.code = cc) {own tx : String} {index q : Nat} (hown : s.vm.findClass own = some m.cls) (hZ : vk_R own index tx q s) (hdg : decode cc pc = .ok (.ldc_w index, 3))
    (k : W p l e R s m args below meth c H locs cells slots Q (F0 m (pc + 3) ls (.ref q :: rest))) : W p l e R s m args below meth c H locs cells slots Q (F0 m pc ls rest) := by
  intro T hT X
  obtain ⟨t, a1, b1⟩ := k T hT X
  exact ⟨t, ldcStringW X hexec hown (text := tx) (a := q) hZ.1 hZ.2 (g := F0 m pc ls rest) rfl (by rw [hb]; exact hdg) t a1, b1⟩
end KROWS
/-- a method that reads constants alone -/
def KMi (y : MethodName) (cd : ByteArray) (nL : Nat) (ret : Option FieldType) (fr lo : Nat) (As : (Nat → Nat) → (Nat → Nat) → List Value) (r : Int32) : Prop :=
  ∀ (l : Launch) (z : Nat) (aK aV : Nat → Nat), Met l y (ws_ y cd nL ret) ({ frames := fr, cells := 0, slots := 0, locals := lo }) (va_Pc (As aK aV) (fun U => StrE z aK aV U)) (vp_Si (fun x => x = r)) 0 0 (fun _ => False)
def KMv (y : MethodName) (cd : ByteArray) (nL : Nat) (fr lo : Nat) (As : (Nat → Nat) → (Nat → Nat) → List Value) : Prop :=
  ∀ (l : Launch) (z : Nat) (aK aV : Nat → Nat), Met l y (ws_ y cd nL none) ({ frames := fr, cells := 0, slots := 0, locals := lo }) (va_Pc (As aK aV) (fun U => StrE z aK aV U)) (va_Sv (fun _ => True)) 0 0 (fun _ => False)
theorem KMi.of {y : MethodName} {cd : ByteArray} {nL fr lo : Nat} {rt : FieldType} {As : (Nat → Nat) → (Nat → Nat) → List Value} {r : Int32} (hy : plainName y.cls = true) (hn : narrow rt (.int r) = .int r) (hlen : ∀ aK aV : Nat → Nat, (lg_sl (As aK aV)).length ≤ nL)
    (body : ∀ (p : Program) (l : Launch) (e : Env) (s : State) (m : MethodId) (args : Array Value) (below : List Frame) (meth : Method) (c : Code) (z : Nat) (aK aV : Nat → Nat) (Q : State → Prop) (ls : Array Slot), p.tables.exec = Jvm.exec → c.code = cd → c.maxLocals = nL → s.vm.findClass y.cls = some m.cls → (∀ w ∈ lw_all, w.before args s = true) → StrE z aK aV s →
      (∀ (pc : Nat) (ls : Array Slot), decode cd pc = .ok (.ireturn, 1) → W p l e ({ frames := fr, cells := 0, slots := 0, locals := lo } : Room) s m args below meth c s.heap [] 0 0 Q (F0 m pc ls [.int r])) →
      lv_has ls nL (lv_args 0 (As aK aV)) → W p l e ({ frames := fr, cells := 0, slots := 0, locals := lo } : Room) s m args below meth c s.heap [] 0 0 Q (F0 m 0 ls [])) : KMi y cd nL (some rt) fr lo As r := by
  intro l z aK aV
  refine Met.ofW (cc := cd) (maxL := nL) (ret := some rt) hy rfl ?_
  intro p e s m args below meth c s₁ B hml hv
  obtain ⟨rfl, hE⟩ := hv
  have hts := atoms_spec (ws := ws_ y cd nL (some rt)) B.pre
  have hts : ∀ w ∈ lw_all, w.before _ s = true := fun w h => hts w (List.mem_cons_of_mem _ h)
  have hl := lv_entry (As aK aV) (n := nL) (hlen aK aV)
  rw [lg_entry_eq]
  generalize (lg_sl (As aK aV) ++ List.replicate (nL - (lg_sl (As aK aV)).length) Slot.unset).toArray = ls at hl ⊢
  exact body p l e s m _ below meth c z aK aV _ ls B.exec B.bytes hml (findClass_of_methodNamed B.named) hts hE (fun pc ls hdg => W.zret B.exec B.bytes B.returns hn (fun t ht hW => ⟨r, rfl, rfl, ht⟩) (fun _ h => nomatch h) hdg B.notSynchronized) hl
theorem KMv.of {y : MethodName} {cd : ByteArray} {nL fr lo : Nat} {As : (Nat → Nat) → (Nat → Nat) → List Value} (hy : plainName y.cls = true) (hlen : ∀ aK aV : Nat → Nat, (lg_sl (As aK aV)).length ≤ nL)
    (body : ∀ (p : Program) (l : Launch) (e : Env) (s : State) (m : MethodId) (args : Array Value) (below : List Frame) (meth : Method) (c : Code) (z : Nat) (aK aV : Nat → Nat) (Q : State → Prop) (ls : Array Slot), p.tables.exec = Jvm.exec → c.code = cd → c.maxLocals = nL → s.vm.findClass y.cls = some m.cls → (∀ w ∈ lw_all, w.before args s = true) → StrE z aK aV s →
      (∀ (pc : Nat) (ls : Array Slot), decode cd pc = .ok (.return_, 1) → W p l e ({ frames := fr, cells := 0, slots := 0, locals := lo } : Room) s m args below meth c s.heap [] 0 0 Q (F0 m pc ls [])) →
      lv_has ls nL (lv_args 0 (As aK aV)) → W p l e ({ frames := fr, cells := 0, slots := 0, locals := lo } : Room) s m args below meth c s.heap [] 0 0 Q (F0 m 0 ls [])) : KMv y cd nL fr lo As := by
  intro l z aK aV
  refine Met.ofW (cc := cd) (maxL := nL) (ret := none) hy rfl ?_
  intro p e s m args below meth c s₁ B hml hv
  obtain ⟨rfl, hE⟩ := hv
  have hts := atoms_spec (ws := ws_ y cd nL none) B.pre
  have hts : ∀ w ∈ lw_all, w.before _ s = true := fun w h => hts w (List.mem_cons_of_mem _ h)
  have hl := lv_entry (As aK aV) (n := nL) (hlen aK aV)
  rw [lg_entry_eq]
  generalize (lg_sl (As aK aV) ++ List.replicate (nL - (lg_sl (As aK aV)).length) Slot.unset).toArray = ls at hl ⊢
  exact body p l e s m _ below meth c z aK aV _ ls B.exec B.bytes hml (findClass_of_methodNamed B.named) hts hE (fun pc ls hdg => W.vret B.exec B.bytes B.returns (fun t ht hW => ⟨rfl, trivial, ht⟩) (fun _ h => nomatch h) hdg B.notSynchronized) hl
section KCALL
variable {p : Program} {l : Launch} {e : Env} {R : Room} {s : State} {m : MethodId} {args : Array Value} {below : List Frame} {meth : Method} {c : Code} {H : Heap} {locs : List Loc} {cells slots : Nat} {Q : State → Prop}
variable {cc : ByteArray} {pc : Nat} {ls : Array Slot} {rest : List Value} {z : Nat} {aK aV : Nat → Nat}
theorem noloc {L : List Loc} (h : ∀ q ∈ L, False) : L = [] := by
  cases L with
  | nil => rfl
  | cons a L => exact (h a List.mem_cons_self).elim
/-- a call through a constant, from a heap whose old cells stand -/
theorem kcallV (hx : p.tables.exec = Jvm.exec) (hb : c.code = cc) (hts : ∀ w ∈ lw_all, w.before args s = true) {own : String} (hown : s.vm.findClass own = some m.cls) (hE : StrE z aK aV s) (hq : ∀ q : Nat, q < s.heap.size → ¬ z ≤ q → H[q]? = s.heap[q]?) {nL : Nat} (hml : c.maxLocals = nL) (hlsz : ls.size = nL)
    {y : MethodName} {cd : ByteArray} {nL' fr lo n index i : Nat} {ret : Option FieldType} {As : List Value} {r : Int32} (hM : KMi y cd nL' ret fr lo (fun aK _ => .ref (aK i) :: As) r) (hi : i < nS) (cw : CallW R s args own "java/lang/String" index y cd nL' ret (ws_ y cd nL' ret) ({ frames := fr, cells := 0, slots := 0, locals := lo }) 0 0 n)
    (hc : cells ≤ R.cells ∧ slots ≤ R.slots) (hn : As.length = n) {st : List Value} (hst : st = As.reverse ++ .ref (aK i) :: rest) (hW : 2 * (F0 m pc ls st).monitorRoom + (rest.map fun v => v.category).sum ≤ 8) (hdg : decode cc pc = .ok (.invokevirtual index, 3))
    (kk : W p l e R s m args below meth c H locs cells slots Q (F0 m (pc + 3) ls (.int r :: rest))) : W p l e R s m args below meth c H locs cells slots Q (F0 m pc ls st) := by
  intro T hT X
  have hrec : ∃ cell : Cell, H[aK i]? = some cell ∧ cell.vm.isStatics = false ∧ s.vm.findClass "java/lang/String" = some cell.cls := by
    obtain ⟨cell, h1, h2, h3, h4⟩ := (hE.1.1 i hi).1
    exact ⟨cell, by rw [hq _ (Array.getElem?_eq_some_iff.mp h1).1 h4]; exact h1, h2, h3⟩
  obtain ⟨v, st₀, t, T', L, h0, X', hL, e1, e2, ⟨r', hv, hp, hh⟩, stp⟩ := va_runV (As := As) (rest := rest) ⟨hx, hb, hml, hown, hts⟩ (hM l z aK aV) cw ⟨fun a U g mk q => ⟨q.1, q.2.go (State.WarmedH.refl U) (fun _ _ _ => rfl)⟩, hrec, fun U hU hW => ⟨rfl, hE.go hW (fun q h1 h2 => by rw [hU]; exact hq q h1 h2)⟩⟩ rfl hn hlsz hst hW hdg ⟨hc.1, hc.2⟩ T hT X
  have hL0 : L = [] := noloc hL
  subst hL0
  cases hv
  have hr' : r' = r := hp
  subst hr'
  rw [List.append_nil] at X'
  obtain ⟨t2, a1, b1⟩ := kk T' (by rw [e1, hh, h0]) X'
  exact ⟨t2, stp t2 a1, b1⟩
theorem kcallS (hx : p.tables.exec = Jvm.exec) (hb : c.code = cc) (hts : ∀ w ∈ lw_all, w.before args s = true) {own : String} (hown : s.vm.findClass own = some m.cls) (hE : StrE z aK aV s) (hq : ∀ q : Nat, q < s.heap.size → ¬ z ≤ q → H[q]? = s.heap[q]?) {nL : Nat} (hml : c.maxLocals = nL) (hlsz : ls.size = nL)
    {y : MethodName} {cd : ByteArray} {nL' fr lo n index : Nat} {ret : Option FieldType} {As : (Nat → Nat) → (Nat → Nat) → List Value} {r : Int32} (hM : KMi y cd nL' ret fr lo As r) (cw : CallB R s args own index y cd nL' ret (ws_ y cd nL' ret) ({ frames := fr, cells := 0, slots := 0, locals := lo }) 0 0 n ∧ (Cond.static y).before args s = true)
    (hc : cells ≤ R.cells ∧ slots ≤ R.slots) (hn : (As aK aV).length = n) {st : List Value} (hst : st = (As aK aV).reverse ++ rest) (hW : 2 * (F0 m pc ls st).monitorRoom + (rest.map fun v => v.category).sum ≤ 8) (hdg : decode cc pc = .ok (.invokestatic index, 3))
    (kk : W p l e R s m args below meth c H locs cells slots Q (F0 m (pc + 3) ls (.int r :: rest))) : W p l e R s m args below meth c H locs cells slots Q (F0 m pc ls st) := by
  intro T hT X
  obtain ⟨v, st₀, t, T', L, h0, X', hL, e1, e2, ⟨r', hv, hp, hh⟩, stp⟩ := va_runS (As := As aK aV) (rest := rest) ⟨hx, hb, hml, hown, hts⟩ (hM l z aK aV) cw ⟨fun a U g mk q => ⟨q.1, q.2.go (State.WarmedH.refl U) (fun _ _ _ => rfl)⟩, fun U hU hW => ⟨rfl, hE.go hW (fun q h1 h2 => by rw [hU]; exact hq q h1 h2)⟩⟩ rfl hn hlsz hst hW hdg ⟨hc.1, hc.2⟩ T hT X
  have hL0 : L = [] := noloc hL
  subst hL0
  cases hv
  have hr' : r' = r := hp
  subst hr'
  rw [List.append_nil] at X'
  obtain ⟨t2, a1, b1⟩ := kk T' (by rw [e1, hh, h0]) X'
  exact ⟨t2, stp t2 a1, b1⟩
theorem kcallSv (hx : p.tables.exec = Jvm.exec) (hb : c.code = cc) (hts : ∀ w ∈ lw_all, w.before args s = true) {own : String} (hown : s.vm.findClass own = some m.cls) (hE : StrE z aK aV s) (hq : ∀ q : Nat, q < s.heap.size → ¬ z ≤ q → H[q]? = s.heap[q]?) {nL : Nat} (hml : c.maxLocals = nL) (hlsz : ls.size = nL)
    {y : MethodName} {cd : ByteArray} {nL' fr lo n index : Nat} {As : (Nat → Nat) → (Nat → Nat) → List Value} (hM : KMv y cd nL' fr lo As) (cw : CallB R s args own index y cd nL' none (ws_ y cd nL' none) ({ frames := fr, cells := 0, slots := 0, locals := lo }) 0 0 n ∧ (Cond.static y).before args s = true)
    (hc : cells ≤ R.cells ∧ slots ≤ R.slots) (hn : (As aK aV).length = n) {st : List Value} (hst : st = (As aK aV).reverse ++ rest) (hW : 2 * (F0 m pc ls st).monitorRoom + (rest.map fun v => v.category).sum ≤ 8) (hdg : decode cc pc = .ok (.invokestatic index, 3))
    (kk : W p l e R s m args below meth c H locs cells slots Q (F0 m (pc + 3) ls rest)) : W p l e R s m args below meth c H locs cells slots Q (F0 m pc ls st) := by
  intro T hT X
  obtain ⟨v, st₀, t, T', L, h0, X', hL, e1, e2, ⟨hv, hp, hh⟩, stp⟩ := va_runS (As := As aK aV) (rest := rest) ⟨hx, hb, hml, hown, hts⟩ (hM l z aK aV) cw ⟨fun a U g mk q => ⟨q.1, q.2.go (State.WarmedH.refl U) (fun _ _ _ => rfl)⟩, fun U hU hW => ⟨rfl, hE.go hW (fun q h1 h2 => by rw [hU]; exact hq q h1 h2)⟩⟩ rfl hn hlsz hst hW hdg ⟨hc.1, hc.2⟩ T hT X
  have hL0 : L = [] := noloc hL
  subst hL0
  cases hv
  rw [List.append_nil] at X'
  obtain ⟨t2, a1, b1⟩ := kk T' (by rw [e1, hh, h0]) X'
  exact ⟨t2, stp t2 a1, b1⟩
end KCALL
theorem s_refl (A : Nat → Prop) (s : State) : va_S A s.heap s.heap [] := va_S.rf
abbrev zZ (z : Nat) : Nat → Prop := fun q => z ≤ q
/-- String.coder() of a constant: 0 -/
theorem mJ6_coder (i : Nat) (hi : i < nS) : KMi yJ6_coder cJ6_coder 1 (some .byte) 1 40 (fun aK _ => [.ref (aK i)]) 0 := by
  refine KMi.of (by decide) rfl (fun _ _ => Nat.le_of_ble_eq_true rfl) ?_
  intro p l e s m args below meth c z aK aV Q ls hx hb hml hown hts hE hret hl
  have hl : lv_has ls 1 [(0, .ref (aK i))] := hl
  refine va_gets (A := zZ z) hx hb hE.2.2.1 va_S.rf hown (hts _ q1127) (fun _ h => h) dJ6_coder_0 ?_
  refine lv_if_eq (tgt := 13) hx hb dJ6_coder_3 (by decide) (fun hc => absurd hc (by decide)) (fun _ => ?_)
  refine lv_aload_n hx hb dJ6_coder_6 rfl (lv_at hl 0 rfl) ?_
  refine vk_getf (A := zZ z) hx hb (hE.1.1 i hi).2.1 va_S.rf hown (hts _ q1183) (fun _ h => h) dJ6_coder_7 ?_
  refine lv_goto (tgt := 14) hx hb dJ6_coder_10 (by decide) ?_
  exact hret 14 ls dJ6_coder_14
theorem mJ6_isLatin1 (i : Nat) (hi : i < nS) : KMi yJ6_isLatin1 cJ6_isLatin1 1 (some .boolean) 1 40 (fun aK _ => [.ref (aK i)]) 1 := by
  refine KMi.of (by decide) rfl (fun _ _ => Nat.le_of_ble_eq_true rfl) ?_
  intro p l e s m args below meth c z aK aV Q ls hx hb hml hown hts hE hret hl
  have hl : lv_has ls 1 [(0, .ref (aK i))] := hl
  refine va_gets (A := zZ z) hx hb hE.2.2.1 va_S.rf hown (hts _ q1127) (fun _ h => h) dJ6_isLatin1_0 ?_
  refine lv_if_eq (tgt := 17) hx hb dJ6_isLatin1_3 (by decide) (fun hc => absurd hc (by decide)) (fun _ => ?_)
  refine lv_aload_n hx hb dJ6_isLatin1_6 rfl (lv_at hl 0 rfl) ?_
  refine vk_getf (A := zZ z) hx hb (hE.1.1 i hi).2.1 va_S.rf hown (hts _ q1183) (fun _ h => h) dJ6_isLatin1_7 ?_
  refine lv_if_ne (tgt := 17) hx hb dJ6_isLatin1_10 (by decide) (fun hc => absurd rfl hc) (fun _ => ?_)
  refine lv_iconst (v := (1 : Int32)) hx hb dJ6_isLatin1_13 (by decide) ?_
  refine lv_goto (tgt := 18) hx hb dJ6_isLatin1_14 (by decide) ?_
  exact hret 18 ls dJ6_isLatin1_18
theorem cwJ6_coder {R : Room} {s : State} {args : Array Value} (hts : ∀ w ∈ lw_all, w.before args s = true) (hR : 1 + 1 ≤ R.frames ∧ 8 + (1 + 11) + 40 ≤ R.locals) : CallW R s args RJ6 RJ6 335 yJ6_coder cJ6_coder 1 (some .byte) (ws_ yJ6_coder cJ6_coder 1 (some .byte)) ({ frames := 1, cells := 0, slots := 0, locals := 40 }) 0 0 0 :=
  cwV 0 hts (lw_V q1123 q1124 q1125 q147 q1126) rfl rfl rfl (by decide +kernel) hR
theorem cwJ6_isLatin1 {R : Room} {s : State} {args : Array Value} (hts : ∀ w ∈ lw_all, w.before args s = true) (hR : 1 + 1 ≤ R.frames ∧ 8 + (1 + 11) + 40 ≤ R.locals) : CallW R s args RJ6 RJ6 492 yJ6_isLatin1 cJ6_isLatin1 1 (some .boolean) (ws_ yJ6_isLatin1 cJ6_isLatin1 1 (some .boolean)) ({ frames := 1, cells := 0, slots := 0, locals := 40 }) 0 0 0 :=
  cwV 0 hts (lw_V q1227 q1228 q1229 q147 q1230) rfl rfl rfl (by decide +kernel) hR
/-- String.length() of a constant -/
theorem mJ6_length (i : Nat) (hi : i < nS) : KMi yJ6_length cJ6_length 1 (some .int) 2 100 (fun aK _ => [.ref (aK i)]) (sLen i) := by
  refine KMi.of (by decide) rfl (fun _ _ => Nat.le_of_ble_eq_true rfl) ?_
  intro p l e s m args below meth c z aK aV Q ls hx hb hml hown hts hE hret hl
  have hl : lv_has ls 1 [(0, .ref (aK i))] := hl
  refine lv_aload_n hx hb dJ6_length_0 rfl (lv_at hl 0 rfl) ?_
  refine vk_getf (A := zZ z) hx hb (hE.1.1 i hi).2.2.1 va_S.rf hown (hts _ q1182) (fun _ h => h) dJ6_length_1 ?_
  refine va_tlen (A := zZ z) (v := sLen i) hx hb (hE.1.1 i hi).2.2.2 va_S.rf rfl dJ6_length_4 ?_
  refine lv_aload_n hx hb dJ6_length_5 rfl (lv_at hl 0 rfl) ?_
  refine kcallV (As := []) (rest := [.int (sLen i)]) hx hb hts hown hE (fun _ _ _ => rfl) hml hl.1 (mJ6_coder i hi) hi (cwJ6_coder hts ⟨Nat.le_of_ble_eq_true rfl, Nat.le_of_ble_eq_true rfl⟩) ⟨Nat.le_of_ble_eq_true rfl, Nat.le_of_ble_eq_true rfl⟩ rfl rfl (lv_room (Nat.le_of_ble_eq_true rfl)) dJ6_length_6 ?_
  refine lv_ishr hx hb dJ6_length_9 ?_
  rw [show sLen i >>> ((0 : Int32) &&& 31) = sLen i from sb_shr0 _]
  exact hret 10 ls dJ6_length_10
/-- Preconditions.checkIndex: an index within -/
theorem mJ11_checkIndex (i n : Int32) (v : Value) (h0 : ¬ i < 0) (h1 : i < n) (hv : v.category = 1) : KMi yJ11_checkIndex cJ11_checkIndex 3 (some .int) 1 40 (fun _ _ => [.int i, .int n, v]) i := by
  refine KMi.of (by decide) rfl (fun _ _ => ?_) ?_
  · cases v <;> first | exact Nat.le_of_ble_eq_true rfl | cases hv
  intro p l e s m args below meth c z aK aV Q ls hx hb hml hown hts hE hret hl
  have hl : lv_has ls 3 [(0, .int i), (1, .int n), (2, v)] := by cases v <;> first | exact hl | cases hv
  refine lv_iload_n hx hb dJ11_checkIndex_0 rfl (lv_at hl 0 rfl) ?_
  refine lv_if_lt (tgt := 9) hx hb dJ11_checkIndex_1 (by decide) (fun hc => absurd hc h0) (fun _ => ?_)
  refine lv_iload_n hx hb dJ11_checkIndex_4 rfl (lv_at hl 0 rfl) ?_
  refine lv_iload_n hx hb dJ11_checkIndex_5 rfl (lv_at hl 1 rfl) ?_
  refine lv_icmp_lt (tgt := 16) hx hb dJ11_checkIndex_6 (by decide) (fun _ => ?_) (fun hc => absurd h1 hc)
  refine lv_iload_n hx hb dJ11_checkIndex_16 rfl (lv_at hl 0 rfl) ?_
  exact hret 17 ls dJ11_checkIndex_17
theorem cwJ11_checkIndex {R : Room} {s : State} {args : Array Value} (hts : ∀ w ∈ lw_all, w.before args s = true) (hR : 1 + 1 ≤ R.frames ∧ 8 + (3 + 11) + 40 ≤ R.locals) : CallB R s args RJ6 1059 yJ11_checkIndex cJ11_checkIndex 3 (some .int) (ws_ yJ11_checkIndex cJ11_checkIndex 3 (some .int)) ({ frames := 1, cells := 0, slots := 0, locals := 40 }) 0 0 3 ∧ (Cond.static yJ11_checkIndex).before args s = true :=
  va_cwS 3 hts (lw_S q986 q609 q152 q610) rfl rfl rfl (by decide +kernel) hR
theorem mJ6_checkIndex (i n : Int32) (h0 : ¬ i < 0) (h1 : i < n) : KMv yJ6_checkIndex cJ6_checkIndex 2 2 100 (fun _ _ => [.int i, .int n]) := by
  refine KMv.of (by decide) (fun _ _ => Nat.le_of_ble_eq_true rfl) ?_
  intro p l e s m args below meth c z aK aV Q ls hx hb hml hown hts hE hret hl
  have hl : lv_has ls 2 [(0, .int i), (1, .int n)] := hl
  refine lv_iload_n hx hb dJ6_checkIndex_0 rfl (lv_at hl 0 rfl) ?_
  refine lv_iload_n hx hb dJ6_checkIndex_1 rfl (lv_at hl 1 rfl) ?_
  have key : ∀ v : Value, va_Z "jdk/internal/util/Preconditions" "SIOOBE_FORMATTER" "Ljava/util/function/BiFunction;" v (zZ z) s s.heap → v.category = 1 → W p l e ({ frames := 2, cells := 0, slots := 0, locals := 100 } : Room) s m args below meth c s.heap [] 0 0 Q (F0 m 2 ls [.int n, .int i]) := by
    intro v hZ hv
    refine va_gets (A := zZ z) hx hb hZ va_S.rf hown (hts _ q963) (fun _ h => h) dJ6_checkIndex_2 ?_
    refine kcallS (rest := []) hx hb hts hown hE (fun _ _ _ => rfl) hml hl.1 (mJ11_checkIndex i n v h0 h1 hv) (cwJ11_checkIndex hts ⟨Nat.le_of_ble_eq_true rfl, Nat.le_of_ble_eq_true rfl⟩) ⟨Nat.le_of_ble_eq_true rfl, Nat.le_of_ble_eq_true rfl⟩ rfl rfl (lv_room (Nat.le_of_ble_eq_true rfl)) dJ6_checkIndex_5 ?_
    refine lv_pop hx hb dJ6_checkIndex_8 rfl ?_
    exact hret 9 ls dJ6_checkIndex_9
  rcases hE.2.2.2 with h | ⟨t, h⟩
  · exact key _ h rfl
  · exact key _ h rfl
theorem cwJ6_checkIndex {R : Room} {s : State} {args : Array Value} (hts : ∀ w ∈ lw_all, w.before args s = true) (hR : 2 + 1 ≤ R.frames ∧ 8 + (2 + 11) + 100 ≤ R.locals) : CallB R s args RJ10 9 yJ6_checkIndex cJ6_checkIndex 2 none (ws_ yJ6_checkIndex cJ6_checkIndex 2 none) ({ frames := 2, cells := 0, slots := 0, locals := 100 }) 0 0 2 ∧ (Cond.static yJ6_checkIndex).before args s = true :=
  va_cwS 2 hts (lw_S q2233 q984 q147 q985) rfl rfl rfl (by decide +kernel) hR
/-- StringLatin1.charAt of a constant's bytes -/
theorem mJ10_charAt (i : Nat) (hi : i < nS) (k x : Int32) (hk : sCh i k = some x) : KMi yJ10_charAt cJ10_charAt 2 (some .char) 3 200 (fun _ aV => [.ref (aV i), .int k]) x := by
  obtain ⟨hin, hv⟩ := ld_e hk
  have hb9 := bytS_ok i hi
  have hk0 : ¬ k < 0 := fun h => hin (Or.inl h)
  have hkn : k.toNatClampNeg < lenS.getD i 0 := Nat.not_le.mp fun h => hin (Or.inr h)
  have hlt : k < sLen i := by
    obtain ⟨j, hj, ej⟩ := nI_of hk0
    rw [ej, nI_clamp hj] at hkn
    rw [ej]
    exact nI_lt hkn (by omega)
  have hxm : x ∈ bytS.getD i [] := by
    rw [← hv]
    exact getD_mem9 (by rw [hb9.1]; exact hkn)
  obtain ⟨x1, x2, x3, x4⟩ := hb9.2.2 x hxm
  have hx2 : (x.toUInt32 % 65536).toInt32 = x := by
    obtain ⟨j, hj, ej⟩ := nI_of (Int32.not_lt.mpr x3)
    subst ej
    have hj2 : j < 128 := by
      rcases Nat.lt_or_ge j 128 with h | h
      · exact h
      · exact absurd x4 (nI_nlt h hj)
    rw [pk_char, pk_tn (by omega), Nat.mod_eq_of_lt (by omega)]
  refine KMi.of (by decide) (by rw [← hx2]; exact pk_nc x) (fun _ _ => Nat.le_of_ble_eq_true rfl) ?_
  intro p l e s m args below meth c z aK aV Q ls hx hb hml hown hts hE hret hl
  have hl : lv_has ls 2 [(0, .ref (aV i)), (1, .int k)] := hl
  refine lv_iload_n hx hb dJ10_charAt_0 rfl (lv_at hl 1 rfl) ?_
  refine lv_aload_n hx hb dJ10_charAt_1 rfl (lv_at hl 0 rfl) ?_
  refine va_tlen (A := zZ z) (v := sLen i) hx hb (hE.1.1 i hi).2.2.2 va_S.rf rfl dJ10_charAt_2 ?_
  refine kcallSv (rest := []) hx hb hts hown hE (fun _ _ _ => rfl) hml hl.1 (mJ6_checkIndex k (sLen i) hk0 hlt) (cwJ6_checkIndex hts ⟨Nat.le_of_ble_eq_true rfl, Nat.le_of_ble_eq_true rfl⟩) ⟨Nat.le_of_ble_eq_true rfl, Nat.le_of_ble_eq_true rfl⟩ rfl rfl (lv_room (Nat.le_of_ble_eq_true rfl)) dJ10_charAt_3 ?_
  refine lv_aload_n hx hb dJ10_charAt_6 rfl (lv_at hl 0 rfl) ?_
  refine lv_iload_n hx hb dJ10_charAt_7 rfl (lv_at hl 1 rfl) ?_
  refine va_tb (A := zZ z) (v := .int x) hx hb (hE.1.1 i hi).2.2.2 va_S.rf hin (by rw [← hv]; rfl) dJ10_charAt_8 ?_
  refine lv_sipush (v := (255 : Int32)) hx hb dJ10_charAt_9 (by decide) ?_
  refine lv_iand hx hb dJ10_charAt_12 ?_
  rw [x2]
  refine lv_i2c (v := x) hx hb dJ10_charAt_13 hx2 ?_
  exact hret 14 ls dJ10_charAt_14
theorem cwJ10_charAt {R : Room} {s : State} {args : Array Value} (hts : ∀ w ∈ lw_all, w.before args s = true) (hR : 3 + 1 ≤ R.frames ∧ 8 + (2 + 11) + 200 ≤ R.locals) : CallB R s args RJ6 495 yJ10_charAt cJ10_charAt 2 (some .char) (ws_ yJ10_charAt cJ10_charAt 2 (some .char)) ({ frames := 3, cells := 0, slots := 0, locals := 200 }) 0 0 2 ∧ (Cond.static yJ10_charAt).before args s = true :=
  va_cwS 2 hts (lw_S q2230 q2231 q151 q2232) rfl rfl rfl (by decide +kernel) hR
/-- String.charAt of a constant -/
theorem mJ6_charAt (i : Nat) (hi : i < nS) (k x : Int32) (hk : sCh i k = some x) (hn : narrow .char (.int x) = .int x) : KMi yJ6_charAt cJ6_charAt 2 (some .char) 4 300 (fun aK _ => [.ref (aK i), .int k]) x := by
  refine KMi.of (by decide) hn (fun _ _ => Nat.le_of_ble_eq_true rfl) ?_
  intro p l e s m args below meth c z aK aV Q ls hx hb hml hown hts hE hret hl
  have hl : lv_has ls 2 [(0, .ref (aK i)), (1, .int k)] := hl
  refine lv_aload_n hx hb dJ6_charAt_0 rfl (lv_at hl 0 rfl) ?_
  refine kcallV (As := []) (rest := []) hx hb hts hown hE (fun _ _ _ => rfl) hml hl.1 (mJ6_isLatin1 i hi) hi (cwJ6_isLatin1 hts ⟨Nat.le_of_ble_eq_true rfl, Nat.le_of_ble_eq_true rfl⟩) ⟨Nat.le_of_ble_eq_true rfl, Nat.le_of_ble_eq_true rfl⟩ rfl rfl (lv_room (Nat.le_of_ble_eq_true rfl)) dJ6_charAt_1 ?_
  refine lv_if_eq (tgt := 16) hx hb dJ6_charAt_4 (by decide) (fun hc => absurd hc (by decide)) (fun _ => ?_)
  refine lv_aload_n hx hb dJ6_charAt_7 rfl (lv_at hl 0 rfl) ?_
  refine vk_getf (A := zZ z) hx hb (hE.1.1 i hi).2.2.1 va_S.rf hown (hts _ q1182) (fun _ h => h) dJ6_charAt_8 ?_
  refine lv_iload_n hx hb dJ6_charAt_11 rfl (lv_at hl 1 rfl) ?_
  refine kcallS (rest := []) hx hb hts hown hE (fun _ _ _ => rfl) hml hl.1 (mJ10_charAt i hi k x hk) (cwJ10_charAt hts ⟨Nat.le_of_ble_eq_true rfl, Nat.le_of_ble_eq_true rfl⟩) ⟨Nat.le_of_ble_eq_true rfl, Nat.le_of_ble_eq_true rfl⟩ rfl rfl (lv_room (Nat.le_of_ble_eq_true rfl)) dJ6_charAt_12 ?_
  exact hret 15 ls dJ6_charAt_15
theorem sCh_nc {i : Nat} (hi : i < nS) {k x : Int32} (hk : sCh i k = some x) : narrow .char (.int x) = .int x := by
  obtain ⟨hin, hv⟩ := ld_e hk
  have hb9 := bytS_ok i hi
  have hkn : k.toNatClampNeg < lenS.getD i 0 := Nat.not_le.mp fun h => hin (Or.inr h)
  have hxm : x ∈ bytS.getD i [] := by
    rw [← hv]
    exact getD_mem9 (by rw [hb9.1]; exact hkn)
  obtain ⟨x1, x2, x3, x4⟩ := hb9.2.2 x hxm
  obtain ⟨j, hj, ej⟩ := nI_of (Int32.not_lt.mpr x3)
  subst ej
  have hj2 : j < 128 := by
    rcases Nat.lt_or_ge j 128 with h | h
    · exact h
    · exact absurd x4 (nI_nlt h hj)
  exact (pk_charN (by omega)).1

/-! THE REFERENCE'S WORLD: one object and ten arrays at o, o+1 .. o+10; its numbers as a flat memory: 0 m, 1 kept, 2 aside, 3 acts, 4 tape, 5 fact, 6 fits, 7 ups, 8 wide, 9 prices, 10 the fields by their places -/
abbrev vwT : List vw_C := [(RX7, TX7, 24)]
abbrev fsT (o : Nat) (τ : Mm) : List Value := [.int (τ 10 0), .ref (o + 1), .ref (o + 2), .int (τ 10 3), .ref (o + 3), .ref (o + 4), .int (τ 10 6), .ref (o + 5), .int (τ 10 8), .int (τ 10 9), .int (τ 10 10), .int (τ 10 11), .int (τ 10 12), .int (τ 10 13), .ref (o + 6), .int (τ 10 15), .int (τ 10 16), .int (τ 10 17), .int (τ 10 18), .int (τ 10 19), .ref (o + 7), .ref (o + 8), .ref (o + 9), .ref (o + 10)]
abbrev ctT (cI cZ : ClassId) (o : Nat) (τ : Mm) : va_W := [(o, .inr (0, fsT o τ)), (o + 1, .inl (cI, 781, .inl (τ 0))), (o + 2, .inl (cI, 781, .inl (τ 1))), (o + 3, .inl (cI, 381, .inl (τ 2))), (o + 4, .inl (cI, 4572, .inl (τ 3))), (o + 5, .inl (cI, 400, .inl (τ 4))), (o + 6, .inl (cI, 7, .inl (τ 5))), (o + 7, .inl (cZ, 126, .inl (τ 6))), (o + 8, .inl (cI, 126, .inl (τ 7))), (o + 9, .inl (cI, 576, .inl (τ 8))), (o + 10, .inl (cI, 8, .inl (τ 9)))]
def rT (o : Nat) : Nat → Prop := fun q => o ≤ q ∧ q ≤ o + 10
theorem ctT_at {cI cZ : ClassId} {o : Nat} {τ : Mm} : ∀ (i : Nat) (p : Nat × va_E), (ctT cI cZ o τ)[i]? = some p → p.1 = o + i ∧ i ≤ 10 := by
  intro i p h
  match i, h with
  | 0, h => cases h; exact ⟨rfl, by omega⟩
  | 1, h => cases h; exact ⟨rfl, by omega⟩
  | 2, h => cases h; exact ⟨rfl, by omega⟩
  | 3, h => cases h; exact ⟨rfl, by omega⟩
  | 4, h => cases h; exact ⟨rfl, by omega⟩
  | 5, h => cases h; exact ⟨rfl, by omega⟩
  | 6, h => cases h; exact ⟨rfl, by omega⟩
  | 7, h => cases h; exact ⟨rfl, by omega⟩
  | 8, h => cases h; exact ⟨rfl, by omega⟩
  | 9, h => cases h; exact ⟨rfl, by omega⟩
  | 10, h => cases h; exact ⟨rfl, by omega⟩
  | i + 11, h => cases h
theorem ctT_D {cI cZ : ClassId} {o : Nat} {τ : Mm} : va_D (rT o) (ctT cI cZ o τ) := by
  refine ⟨fun i j p q hi hj e => ?_, fun k q hk => ?_⟩
  · have a := ctT_at i p hi
    have b := ctT_at j q hj
    omega
  · have a := ctT_at k q hk
    exact ⟨by omega, by omega⟩
/-- what holds of the tables and of the old cells, all through a run -/
def EN (D : va_G) (cI cZ : ClassId) (z : Nat) (aK aV : Nat → Nat) (U : State) : Prop := va_K D vwT [(cI, .int), (cZ, .boolean)] U ∧ StrE z aK aV U
theorem EN.go {D : va_G} {cI cZ : ClassId} {z : Nat} {aK aV : Nat → Nat} {s U : State} (h : EN D cI cZ z aK aV s) (hW : s.WarmedH U.vm) (hq : ∀ q : Nat, q < s.heap.size → ¬ z ≤ q → U.heap[q]? = s.heap[q]?) : EN D cI cZ z aK aV U := ⟨va_K.moved hW.alike h.1, h.2.go hW hq⟩
/-- where the walk stands -/
def IT (D : va_G) (cI cZ : ClassId) (o : Nat) (s : State) (H : Heap) (locs : List Loc) (τ : Mm) : Prop := va_P D vwT (ctT cI cZ o τ) H ∧ va_S (rT o) s.heap H locs
/-- a method's contract: with an int (or boolean) for answer; with none -/
def TMi (y : MethodName) (cd : ByteArray) (nL : Nat) (ret : Option FieldType) (fr lo : Nat) (As : (Nat → Nat) → List Value) (r : Int32) (τ τ' : Mm) : Prop :=
  ∀ (l : Launch) (D : va_G) (cI cZ : ClassId) (o z : Nat) (aK aV : Nat → Nat), z ≤ o → Met l y (ws_ y cd nL ret) ({ frames := fr, cells := 0, slots := 0, locals := lo }) (va_Pc (.ref o :: As aK) (fun U => va_P D vwT (ctT cI cZ o τ) U.heap ∧ EN D cI cZ z aK aV U)) (va_Qi (fun (x : Int32) (_ : Unit) => x = r) (fun _ t => va_P D vwT (ctT cI cZ o τ') t.heap) (rT o)) 0 0 (rT o)
def TMv (y : MethodName) (cd : ByteArray) (nL : Nat) (ret : Option FieldType) (fr lo : Nat) (As : (Nat → Nat) → List Value) (τ τ' : Mm) : Prop :=
  ∀ (l : Launch) (D : va_G) (cI cZ : ClassId) (o z : Nat) (aK aV : Nat → Nat), z ≤ o → Met l y (ws_ y cd nL ret) ({ frames := fr, cells := 0, slots := 0, locals := lo }) (va_Pc (.ref o :: As aK) (fun U => va_P D vwT (ctT cI cZ o τ) U.heap ∧ EN D cI cZ z aK aV U)) (va_Qv (fun (_ : Unit) => True) (fun _ t => va_P D vwT (ctT cI cZ o τ') t.heap) (rT o)) 0 0 (rT o)
/-- a static method that reads its arguments alone -/
def SMi (y : MethodName) (cd : ByteArray) (nL : Nat) (ret : Option FieldType) (fr lo : Nat) (As : List Value) (r : Int32) : Prop :=
  ∀ (l : Launch), Met l y (ws_ y cd nL ret) ({ frames := fr, cells := 0, slots := 0, locals := lo }) (va_Pc As (fun _ => True)) (vp_Si (fun x => x = r)) 0 0 (fun _ => False)

section TROWS
variable {p : Program} {l : Launch} {e : Env} {R : Room} {s : State} {m : MethodId} {args : Array Value} {below : List Frame} {meth : Method} {c : Code} {H : Heap} {locs : List Loc} {cells slots : Nat} {Q : State → Prop}
variable {cc : ByteArray} {pc : Nat} {ls : Array Slot} {rest : List Value} {D : va_G} {cI cZ : ClassId} {o z : Nat} {aK aV : Nat → Nat} {τ τ' : Mm}
/-- reading a field -/
theorem tget (hx : p.tables.exec = Jvm.exec) (hb : c.code = cc) (hts : ∀ w ∈ lw_all, w.before args s = true) (hown : s.vm.findClass RX7 = some m.cls) (hE : EN D cI cZ z aK aV s) (hI : IT D cI cZ o s H locs τ) (k : Nat) {index : Nat} {v : Value} (hk : k < 24) (hl : Cond.fieldLink RX7 index (TX7 k).1 (TX7 k).2.1 (TX7 k).2.2.1 ∈ lw_all) (hv : (fsT o τ)[k]? = some v) (hdg : decode cc pc = .ok (.getfield index, 3))
    (kk : W p l e R s m args below meth c H locs cells slots Q (F0 m (pc + 3) ls (v :: rest))) : W p l e R s m args below meth c H locs cells slots Q (F0 m pc ls (.ref o :: rest)) :=
  va_get (C := RX7) (T := TX7) (N := 24) (ref := (TX7 k).1) hx hb hts in_X7 hown hE.1 hI.1 0 rfl rfl k hk (hts _ hl) (fun _ h => h) hv hdg kk
/-- writing a field: the memory's cell of region 10 -/
theorem tput (hx : p.tables.exec = Jvm.exec) (hb : c.code = cc) (hts : ∀ w ∈ lw_all, w.before args s = true) (hown : s.vm.findClass RX7 = some m.cls) (hE : EN D cI cZ z aK aV s) (hI : IT D cI cZ o s H locs τ) (k : Nat) {index : Nat} {x : Int32} {ty : FieldType} (hk : k < 24) (hl : Cond.fieldLink RX7 index (TX7 k).1 (TX7 k).2.1 (TX7 k).2.2.1 ∈ lw_all) (hfin : (TX7 k).2.2.2 = false) (hd : parseFieldDescriptor (TX7 k).2.2.1 = some ty) (hn : narrow ty (.int x) = .int x) (hfit : fits ty (.int x) = true)
    (hw : (ctT cI cZ o τ).set 0 (o, .inr (0, (fsT o τ).set k (.int x))) = ctT cI cZ o (mup τ 10 k x)) (hτ : some (mup τ 10 k x) = some τ') (hdg : decode cc pc = .ok (.putfield index, 3))
    (kk : ∀ (H1 : Heap) (locs1 : List Loc), IT D cI cZ o s H1 locs1 τ' → W p l e R s m args below meth c H1 locs1 cells slots Q (F0 m (pc + 3) ls rest)) : W p l e R s m args below meth c H locs cells slots Q (F0 m pc ls (.int x :: .ref o :: rest)) := by
  cases hτ
  exact va_put (C := RX7) (T := TX7) (N := 24) (ref := (TX7 k).1) hx hb hts in_X7 tyX7 tyX7_ok nmX7 hown hE.1 hI.1 ctT_D hI.2 0 rfl rfl k hk (hts _ hl) (fun _ h => h) hfin hd hn hfit hk hdg (fun H1 locs1 hP _ hS => kk H1 locs1 ⟨hw ▸ hP, hS⟩)
/-- reading an int array's place: q its place in the world -/
theorem tald (hx : p.tables.exec = Jvm.exec) (hb : c.code = cc) (hE : EN D cI cZ z aK aV s) (hI : IT D cI cZ o s H locs τ) (q n : Nat) {a : Nat} {f : Nat → Int32} {i x : Int32} (ha : (ctT cI cZ o τ)[q]? = some (a, .inl (cI, n, .inl f))) (hl : ld n f i = some x) (hdg : decode cc pc = .ok (.iaload, 1))
    (kk : W p l e R s m args below meth c H locs cells slots Q (F0 m (pc + 1) ls (.int x :: rest))) : W p l e R s m args below meth c H locs cells slots Q (F0 m pc ls (.int i :: .ref a :: rest)) := by
  obtain ⟨h1, h2⟩ := ld_e hl
  subst h2
  exact va_iald hx hb hE.1 hI.1 q 0 ha rfl h1 hdg kk
/-- .. at a place that is a number -/
theorem taldc (hx : p.tables.exec = Jvm.exec) (hb : c.code = cc) (hE : EN D cI cZ z aK aV s) (hI : IT D cI cZ o s H locs τ) (q n j : Nat) {a : Nat} {f : Nat → Int32} {i : Int32} (ha : (ctT cI cZ o τ)[q]? = some (a, .inl (cI, n, .inl f))) (hi : inb i n = true) (hj : i.toNatClampNeg = j) (hdg : decode cc pc = .ok (.iaload, 1))
    (kk : W p l e R s m args below meth c H locs cells slots Q (F0 m (pc + 1) ls (.int (f j) :: rest))) : W p l e R s m args below meth c H locs cells slots Q (F0 m pc ls (.int i :: .ref a :: rest)) := by
  subst hj
  exact va_iald hx hb hE.1 hI.1 q 0 ha rfl (inb_in hi) hdg kk
theorem tzld (hx : p.tables.exec = Jvm.exec) (hb : c.code = cc) (hE : EN D cI cZ z aK aV s) (hI : IT D cI cZ o s H locs τ) (q n : Nat) {a : Nat} {f : Nat → Int32} {i x : Int32} (ha : (ctT cI cZ o τ)[q]? = some (a, .inl (cZ, n, .inl f))) (hl : ld n f i = some x) (hdg : decode cc pc = .ok (.baload, 1))
    (kk : W p l e R s m args below meth c H locs cells slots Q (F0 m (pc + 1) ls (.int x :: rest))) : W p l e R s m args below meth c H locs cells slots Q (F0 m pc ls (.int i :: .ref a :: rest)) := by
  obtain ⟨h1, h2⟩ := ld_e hl
  subst h2
  exact va_zald hx hb hE.1 hI.1 q 1 ha rfl h1 hdg kk
/-- writing an int array's place -/
theorem tast (hx : p.tables.exec = Jvm.exec) (hb : c.code = cc) (hE : EN D cI cZ z aK aV s) (hI : IT D cI cZ o s H locs τ) (q n k : Nat) {a : Nat} {f : Nat → Int32} {i x : Int32} (ha : (ctT cI cZ o τ)[q]? = some (a, .inl (cI, n, .inl f))) (hw : ∀ j : Nat, (ctT cI cZ o τ).set q (a, .inl (cI, n, .inl (upd f j x))) = ctT cI cZ o (mup τ k j x)) (hl : sto n τ k i x = some τ') (hdg : decode cc pc = .ok (.iastore, 1))
    (kk : ∀ (H1 : Heap) (locs1 : List Loc), IT D cI cZ o s H1 locs1 τ' → W p l e R s m args below meth c H1 locs1 cells slots Q (F0 m (pc + 1) ls rest)) : W p l e R s m args below meth c H locs cells slots Q (F0 m pc ls (.int x :: .int i :: .ref a :: rest)) := by
  obtain ⟨h1, h2⟩ := sto_e hl
  subst h2
  exact va_iast hx hb hE.1 hI.1 ctT_D hI.2 q 0 ha rfl h1 hdg (fun H1 locs1 hP _ hS => kk H1 locs1 ⟨hw _ ▸ hP, hS⟩)
/-- .. a boolean array's, of 0 or 1 -/
theorem tzst (hx : p.tables.exec = Jvm.exec) (hb : c.code = cc) (hE : EN D cI cZ z aK aV s) (hI : IT D cI cZ o s H locs τ) (q n k : Nat) {a : Nat} {f : Nat → Int32} {i x : Int32} (ha : (ctT cI cZ o τ)[q]? = some (a, .inl (cZ, n, .inl f))) (hz : x = 0 ∨ x = 1) (hw : ∀ j : Nat, (ctT cI cZ o τ).set q (a, .inl (cZ, n, .inl (upd f j x))) = ctT cI cZ o (mup τ k j x)) (hl : sto n τ k i x = some τ') (hdg : decode cc pc = .ok (.bastore, 1))
    (kk : ∀ (H1 : Heap) (locs1 : List Loc), IT D cI cZ o s H1 locs1 τ' → W p l e R s m args below meth c H1 locs1 cells slots Q (F0 m (pc + 1) ls rest)) : W p l e R s m args below meth c H locs cells slots Q (F0 m pc ls (.int x :: .int i :: .ref a :: rest)) := by
  obtain ⟨h1, h2⟩ := sto_e hl
  subst h2
  have hx9 : vp_nar .boolean x = x := by rcases hz with h | h <;> (rw [h]; decide)
  refine va_zast hx hb hE.1 hI.1 ctT_D hI.2 q 1 ha rfl h1 hdg (fun H1 locs1 hP _ hS => ?_)
  rw [hx9] at hP
  exact kk H1 locs1 ⟨hw _ ▸ hP, hS⟩
/-- a call of a method of the reference -/
theorem tcallI (hx : p.tables.exec = Jvm.exec) (hb : c.code = cc) (hts : ∀ w ∈ lw_all, w.before args s = true) (hown : s.vm.findClass RX7 = some m.cls) (hE : EN D cI cZ z aK aV s) (hz : z ≤ o) (hI : IT D cI cZ o s H locs τ) {nL : Nat} (hml : c.maxLocals = nL) (hlsz : ls.size = nL)
    {y : MethodName} {cd : ByteArray} {nL' fr lo n index : Nat} {ret : Option FieldType} {As : (Nat → Nat) → List Value} {r : Int32} (hM : TMi y cd nL' ret fr lo As r τ τ') (cw : CallW R s args RX7 RX7 index y cd nL' ret (ws_ y cd nL' ret) ({ frames := fr, cells := 0, slots := 0, locals := lo }) 0 0 n)
    (hc : cells ≤ R.cells ∧ slots ≤ R.slots) (hn : (As aK).length = n) {st : List Value} (hst : st = (As aK).reverse ++ .ref o :: rest) (hW : 2 * (F0 m pc ls st).monitorRoom + (rest.map fun v => v.category).sum ≤ 8) (hdg : decode cc pc = .ok (.invokevirtual index, 3))
    (kk : ∀ (H1 : Heap) (locs1 : List Loc), IT D cI cZ o s H1 locs1 τ' → W p l e R s m args below meth c H1 locs1 cells slots Q (F0 m (pc + 3) ls (.int r :: rest))) : W p l e R s m args below meth c H locs cells slots Q (F0 m pc ls st) := by
  have hEq : ∀ U : State, U.heap = H → s.WarmedH U.vm → EN D cI cZ z aK aV U := fun U hU hW => hE.go hW (fun q h1 h2 => by rw [hU]; exact hI.2.2.1 q h1 (fun h3 => h2 (Nat.le_trans hz h3.1)))
  refine va_calli (va_runV (As := As aK) (rest := rest) ⟨hx, hb, hml, hown, hts⟩ (hM l D cI cZ o z aK aV hz) cw ⟨fun a U g mk q => ?_, va_recv hE.1 hI.1 (ci := 0) (q0 := 0) rfl rfl, fun U hU hW => ⟨rfl, by rw [hU]; exact hI.1, hEq U hU hW⟩⟩ rfl hn hlsz hst hW hdg ⟨hc.1, hc.2⟩) hI.2 (fun q _ h => h) (fun q h => h) (fun r' u t H1 locs1 ht hvm hp hB hz1 hk1 hS => ?_)
  · obtain ⟨q0, qP, qE⟩ := q
    exact ⟨q0, qP, qE.go (State.WarmedH.refl U) (fun _ _ _ => rfl)⟩
  · have hr' : r' = r := hp
    subst hr'
    exact kk H1 locs1 ⟨by rw [← ht]; exact hB, hS⟩
theorem tcallV (hx : p.tables.exec = Jvm.exec) (hb : c.code = cc) (hts : ∀ w ∈ lw_all, w.before args s = true) (hown : s.vm.findClass RX7 = some m.cls) (hE : EN D cI cZ z aK aV s) (hz : z ≤ o) (hI : IT D cI cZ o s H locs τ) {nL : Nat} (hml : c.maxLocals = nL) (hlsz : ls.size = nL)
    {y : MethodName} {cd : ByteArray} {nL' fr lo n index : Nat} {ret : Option FieldType} {As : (Nat → Nat) → List Value} (hM : TMv y cd nL' ret fr lo As τ τ') (cw : CallW R s args RX7 RX7 index y cd nL' ret (ws_ y cd nL' ret) ({ frames := fr, cells := 0, slots := 0, locals := lo }) 0 0 n)
    (hc : cells ≤ R.cells ∧ slots ≤ R.slots) (hn : (As aK).length = n) {st : List Value} (hst : st = (As aK).reverse ++ .ref o :: rest) (hW : 2 * (F0 m pc ls st).monitorRoom + (rest.map fun v => v.category).sum ≤ 8) (hdg : decode cc pc = .ok (.invokevirtual index, 3))
    (kk : ∀ (H1 : Heap) (locs1 : List Loc), IT D cI cZ o s H1 locs1 τ' → W p l e R s m args below meth c H1 locs1 cells slots Q (F0 m (pc + 3) ls rest)) : W p l e R s m args below meth c H locs cells slots Q (F0 m pc ls st) := by
  have hEq : ∀ U : State, U.heap = H → s.WarmedH U.vm → EN D cI cZ z aK aV U := fun U hU hW => hE.go hW (fun q h1 h2 => by rw [hU]; exact hI.2.2.1 q h1 (fun h3 => h2 (Nat.le_trans hz h3.1)))
  refine va_callv (va_runV (As := As aK) (rest := rest) ⟨hx, hb, hml, hown, hts⟩ (hM l D cI cZ o z aK aV hz) cw ⟨fun a U g mk q => ?_, va_recv hE.1 hI.1 (ci := 0) (q0 := 0) rfl rfl, fun U hU hW => ⟨rfl, by rw [hU]; exact hI.1, hEq U hU hW⟩⟩ rfl hn hlsz hst hW hdg ⟨hc.1, hc.2⟩) hI.2 (fun q _ h => h) (fun q h => h) (fun u t H1 locs1 ht hvm hp hB hz1 hk1 hS => ?_)
  · obtain ⟨q0, qP, qE⟩ := q
    exact ⟨q0, qP, qE.go (State.WarmedH.refl U) (fun _ _ _ => rfl)⟩
  · exact kk H1 locs1 ⟨by rw [← ht]; exact hB, hS⟩
/-- a static one -/
theorem tcallS (hx : p.tables.exec = Jvm.exec) (hb : c.code = cc) (hts : ∀ w ∈ lw_all, w.before args s = true) {own : String} (hown : s.vm.findClass own = some m.cls) {nL : Nat} (hml : c.maxLocals = nL) (hlsz : ls.size = nL)
    {y : MethodName} {cd : ByteArray} {nL' fr lo n index : Nat} {ret : Option FieldType} {As : List Value} {r : Int32} (hM : SMi y cd nL' ret fr lo As r) (cw : CallB R s args own index y cd nL' ret (ws_ y cd nL' ret) ({ frames := fr, cells := 0, slots := 0, locals := lo }) 0 0 n ∧ (Cond.static y).before args s = true)
    (hc : cells ≤ R.cells ∧ slots ≤ R.slots) (hn : As.length = n) {st : List Value} (hst : st = As.reverse ++ rest) (hW : 2 * (F0 m pc ls st).monitorRoom + (rest.map fun v => v.category).sum ≤ 8) (hdg : decode cc pc = .ok (.invokestatic index, 3))
    (kk : W p l e R s m args below meth c H locs cells slots Q (F0 m (pc + 3) ls (.int r :: rest))) : W p l e R s m args below meth c H locs cells slots Q (F0 m pc ls st) := by
  intro T hT X
  obtain ⟨v, st₀, t, T', L, h0, X', hL, e1, e2, ⟨r', hv, hp, hh⟩, stp⟩ := va_runS (As := As) (rest := rest) ⟨hx, hb, hml, hown, hts⟩ (hM l) cw ⟨fun a U g mk q => ⟨q.1, trivial⟩, fun U hU hW => ⟨rfl, trivial⟩⟩ rfl hn hlsz hst hW hdg ⟨hc.1, hc.2⟩ T hT X
  have hL0 : L = [] := by
    cases L with
    | nil => rfl
    | cons a L => exact (hL a List.mem_cons_self).elim
  subst hL0
  cases hv
  have hr' : r' = r := hp
  subst hr'
  rw [List.append_nil] at X'
  obtain ⟨t2, a1, b1⟩ := kk T' (by rw [e1, hh, h0]) X'
  exact ⟨t2, stp t2 a1, b1⟩
theorem sretI (hx : p.tables.exec = Jvm.exec) (hb : c.code = cc) (hr : meth.sig.returnType = some .int) (hlocks : meth.locks = false) {v r : Int32} (hv : v = r) (hdg : decode cc pc = .ok (.ireturn, 1)) :
    W p l e R s m args below meth c s.heap [] 0 0 (MQ below (vp_Si (fun x => x = r)) args s 0 0 (fun _ => False)) (F0 m pc ls [.int v]) := by
  subst hv
  exact W.iret hx hb hr (fun t ht hW => ⟨v, rfl, rfl, ht⟩) (fun _ h => nomatch h) hdg hlocks
theorem sretZ (hx : p.tables.exec = Jvm.exec) (hb : c.code = cc) (hr : meth.sig.returnType = some .boolean) (hlocks : meth.locks = false) {v r : Int32} (hv : v = r) (h01 : v = 0 ∨ v = 1) (hdg : decode cc pc = .ok (.ireturn, 1)) :
    W p l e R s m args below meth c s.heap [] 0 0 (MQ below (vp_Si (fun x => x = r)) args s 0 0 (fun _ => False)) (F0 m pc ls [.int v]) := by
  subst hv
  exact W.zret hx hb hr (zb_n h01) (fun t ht hW => ⟨v, rfl, rfl, ht⟩) (fun _ h => nomatch h) hdg hlocks
theorem IT.old (hz : z ≤ o) (hI : IT D cI cZ o s H locs τ) : ∀ q : Nat, q < s.heap.size → ¬ z ≤ q → H[q]? = s.heap[q]? := fun q h1 h2 => hI.2.2.1 q h1 (fun h3 => h2 (Nat.le_trans hz h3.1))
/-- a constant's length, its letters -/
theorem tslen (hx : p.tables.exec = Jvm.exec) (hb : c.code = cc) (hts : ∀ w ∈ lw_all, w.before args s = true) (hown : s.vm.findClass RX7 = some m.cls) (hE : EN D cI cZ z aK aV s) (hz : z ≤ o) (hI : IT D cI cZ o s H locs τ) {nL : Nat} (hml : c.maxLocals = nL) (hlsz : ls.size = nL) {i : Nat} (hi : i < nS)
    (hR : 2 + 1 ≤ R.frames ∧ 8 + (1 + 11) + 100 ≤ R.locals) (hW : 2 * (F0 m pc ls (.ref (aK i) :: rest)).monitorRoom + (rest.map fun v => v.category).sum ≤ 8) (hdg : decode cc pc = .ok (.invokevirtual 88, 3))
    (kk : W p l e R s m args below meth c H locs 0 0 Q (F0 m (pc + 3) ls (.int (sLen i) :: rest))) : W p l e R s m args below meth c H locs 0 0 Q (F0 m pc ls (.ref (aK i) :: rest)) :=
  kcallV (As := []) (rest := rest) hx hb hts hown hE.2 (hI.old hz) hml hlsz (mJ6_length i hi) hi (cwV 0 hts (lw_V q2225 q1120 q1121 q147 q1122) rfl rfl rfl (by decide +kernel) hR) ⟨Nat.zero_le _, Nat.zero_le _⟩ rfl rfl hW hdg kk
theorem tschar (hx : p.tables.exec = Jvm.exec) (hb : c.code = cc) (hts : ∀ w ∈ lw_all, w.before args s = true) (hown : s.vm.findClass RX7 = some m.cls) (hE : EN D cI cZ z aK aV s) (hz : z ≤ o) (hI : IT D cI cZ o s H locs τ) {nL : Nat} (hml : c.maxLocals = nL) (hlsz : ls.size = nL) {i : Nat} (hi : i < nS) {k x : Int32} (hk : sCh i k = some x)
    (hR : 4 + 1 ≤ R.frames ∧ 8 + (2 + 11) + 300 ≤ R.locals) (hW : 2 * (F0 m pc ls (.int k :: .ref (aK i) :: rest)).monitorRoom + (rest.map fun v => v.category).sum ≤ 8) (hdg : decode cc pc = .ok (.invokevirtual 94, 3))
    (kk : W p l e R s m args below meth c H locs 0 0 Q (F0 m (pc + 3) ls (.int x :: rest))) : W p l e R s m args below meth c H locs 0 0 Q (F0 m pc ls (.int k :: .ref (aK i) :: rest)) :=
  kcallV (As := [.int k]) (rest := rest) hx hb hts hown hE.2 (hI.old hz) hml hlsz (mJ6_charAt i hi k x hk (sCh_nc hi hk)) hi (cwV 1 hts (lw_V q2226 q2227 q2228 q147 q2229) rfl rfl rfl (by decide +kernel) hR) ⟨Nat.zero_le _, Nat.zero_le _⟩ rfl rfl hW hdg kk
/-- the ends -/
theorem tretI (hx : p.tables.exec = Jvm.exec) (hb : c.code = cc) (hr : meth.sig.returnType = some .int) (hlocks : meth.locks = false) (hI : IT D cI cZ o s H locs τ') {v r : Int32} (hv : v = r) (hdg : decode cc pc = .ok (.ireturn, 1)) :
    W p l e R s m args below meth c H locs 0 0 (MQ below (va_Qi (fun (x : Int32) (_ : Unit) => x = r) (fun _ t => va_P D vwT (ctT cI cZ o τ') t.heap) (rT o)) args s 0 0 (rT o)) (F0 m pc ls [.int v]) := by
  subst hv
  exact W.iret hx hb hr (fun t ht hW => ⟨⟨v, (), rfl, rfl, by show va_P D vwT (ctT cI cZ o τ') t.heap; rw [ht]; exact hI.1⟩, hI.2.F ht⟩) hI.2.2.2 hdg hlocks
theorem tretZ (hx : p.tables.exec = Jvm.exec) (hb : c.code = cc) (hr : meth.sig.returnType = some .boolean) (hlocks : meth.locks = false) (hI : IT D cI cZ o s H locs τ') {v r : Int32} (hv : v = r) (h01 : v = 0 ∨ v = 1) (hdg : decode cc pc = .ok (.ireturn, 1)) :
    W p l e R s m args below meth c H locs 0 0 (MQ below (va_Qi (fun (x : Int32) (_ : Unit) => x = r) (fun _ t => va_P D vwT (ctT cI cZ o τ') t.heap) (rT o)) args s 0 0 (rT o)) (F0 m pc ls [.int v]) := by
  subst hv
  exact W.zret hx hb hr (zb_n h01) (fun t ht hW => ⟨⟨v, (), rfl, rfl, by show va_P D vwT (ctT cI cZ o τ') t.heap; rw [ht]; exact hI.1⟩, hI.2.F ht⟩) hI.2.2.2 hdg hlocks
theorem tretV (hx : p.tables.exec = Jvm.exec) (hb : c.code = cc) (hr : meth.sig.returnType = none) (hlocks : meth.locks = false) (hI : IT D cI cZ o s H locs τ') (hdg : decode cc pc = .ok (.return_, 1)) :
    W p l e R s m args below meth c H locs 0 0 (MQ below (va_Qv (fun (_ : Unit) => True) (fun _ t => va_P D vwT (ctT cI cZ o τ') t.heap) (rT o)) args s 0 0 (rT o)) (F0 m pc ls []) :=
  W.vret hx hb hr (fun t ht hW => ⟨⟨(), rfl, trivial, by show va_P D vwT (ctT cI cZ o τ') t.heap; rw [ht]; exact hI.1⟩, hI.2.F ht⟩) hI.2.2.2 hdg hlocks
end TROWS
/-- a contract out of its body's walk; 'hret': the method's end -/
theorem TMi.of {y : MethodName} {cd : ByteArray} {nL fr lo : Nat} {As : (Nat → Nat) → List Value} {r : Int32} {τ τ' : Mm} (hy : plainName y.cls = true) (hc : y.cls = RX7) (hlen : ∀ (aK : Nat → Nat) (o : Nat), (lg_sl (.ref o :: As aK)).length ≤ nL)
    (body : ∀ (p : Program) (l : Launch) (e : Env) (s : State) (m : MethodId) (args : Array Value) (below : List Frame) (meth : Method) (c : Code) (D : va_G) (cI cZ : ClassId) (o z : Nat) (aK aV : Nat → Nat) (Q : State → Prop) (ls : Array Slot), z ≤ o → p.tables.exec = Jvm.exec → c.code = cd → c.maxLocals = nL → s.vm.findClass RX7 = some m.cls → (∀ w ∈ lw_all, w.before args s = true) → EN D cI cZ z aK aV s →
      (∀ (H : Heap) (locs : List Loc) (pc : Nat) (ls : Array Slot), IT D cI cZ o s H locs τ' → decode cd pc = .ok (.ireturn, 1) → W p l e ({ frames := fr, cells := 0, slots := 0, locals := lo } : Room) s m args below meth c H locs 0 0 Q (F0 m pc ls [.int r])) →
      IT D cI cZ o s s.heap [] τ → lv_has ls nL (lv_args 0 (.ref o :: As aK)) → W p l e ({ frames := fr, cells := 0, slots := 0, locals := lo } : Room) s m args below meth c s.heap [] 0 0 Q (F0 m 0 ls [])) : TMi y cd nL (some .int) fr lo As r τ τ' := by
  intro l D cI cZ o z aK aV hz
  refine Met.ofW (cc := cd) (maxL := nL) (ret := some .int) hy rfl ?_
  intro p e s m args below meth c s₁ B hml hv
  obtain ⟨rfl, hP, hE⟩ := hv
  have hts := atoms_spec (ws := ws_ y cd nL (some .int)) B.pre
  have hts : ∀ w ∈ lw_all, w.before _ s = true := fun w h => hts w (List.mem_cons_of_mem _ h)
  have hown : s.vm.findClass RX7 = some m.cls := by rw [← hc]; exact findClass_of_methodNamed B.named
  have hl := lv_entry (.ref o :: As aK) (n := nL) (hlen aK o)
  rw [lg_entry_eq]
  generalize (lg_sl (.ref o :: As aK) ++ List.replicate (nL - (lg_sl (.ref o :: As aK)).length) Slot.unset).toArray = ls at hl ⊢
  exact body p l e s m _ below meth c D cI cZ o z aK aV _ ls hz B.exec B.bytes hml hown hts hE (fun H locs pc ls hI hdg => tretI B.exec B.bytes B.returns B.notSynchronized hI rfl hdg) ⟨hP, va_S.rf⟩ hl
theorem TMz.of {y : MethodName} {cd : ByteArray} {nL fr lo : Nat} {As : (Nat → Nat) → List Value} {r : Int32} {τ τ' : Mm} (hy : plainName y.cls = true) (hc : y.cls = RX7) (hlen : ∀ (aK : Nat → Nat) (o : Nat), (lg_sl (.ref o :: As aK)).length ≤ nL)
    (body : ∀ (p : Program) (l : Launch) (e : Env) (s : State) (m : MethodId) (args : Array Value) (below : List Frame) (meth : Method) (c : Code) (D : va_G) (cI cZ : ClassId) (o z : Nat) (aK aV : Nat → Nat) (Q : State → Prop) (ls : Array Slot), z ≤ o → p.tables.exec = Jvm.exec → c.code = cd → c.maxLocals = nL → s.vm.findClass RX7 = some m.cls → (∀ w ∈ lw_all, w.before args s = true) → EN D cI cZ z aK aV s →
      (∀ (H : Heap) (locs : List Loc) (pc : Nat) (ls : Array Slot), IT D cI cZ o s H locs τ' → (r = 0 ∨ r = 1) → decode cd pc = .ok (.ireturn, 1) → W p l e ({ frames := fr, cells := 0, slots := 0, locals := lo } : Room) s m args below meth c H locs 0 0 Q (F0 m pc ls [.int r])) →
      IT D cI cZ o s s.heap [] τ → lv_has ls nL (lv_args 0 (.ref o :: As aK)) → W p l e ({ frames := fr, cells := 0, slots := 0, locals := lo } : Room) s m args below meth c s.heap [] 0 0 Q (F0 m 0 ls [])) : TMi y cd nL (some .boolean) fr lo As r τ τ' := by
  intro l D cI cZ o z aK aV hz
  refine Met.ofW (cc := cd) (maxL := nL) (ret := some .boolean) hy rfl ?_
  intro p e s m args below meth c s₁ B hml hv
  obtain ⟨rfl, hP, hE⟩ := hv
  have hts := atoms_spec (ws := ws_ y cd nL (some .boolean)) B.pre
  have hts : ∀ w ∈ lw_all, w.before _ s = true := fun w h => hts w (List.mem_cons_of_mem _ h)
  have hown : s.vm.findClass RX7 = some m.cls := by rw [← hc]; exact findClass_of_methodNamed B.named
  have hl := lv_entry (.ref o :: As aK) (n := nL) (hlen aK o)
  rw [lg_entry_eq]
  generalize (lg_sl (.ref o :: As aK) ++ List.replicate (nL - (lg_sl (.ref o :: As aK)).length) Slot.unset).toArray = ls at hl ⊢
  exact body p l e s m _ below meth c D cI cZ o z aK aV _ ls hz B.exec B.bytes hml hown hts hE (fun H locs pc ls hI h01 hdg => tretZ B.exec B.bytes B.returns B.notSynchronized hI rfl h01 hdg) ⟨hP, va_S.rf⟩ hl
theorem TMv.of {y : MethodName} {cd : ByteArray} {nL fr lo : Nat} {As : (Nat → Nat) → List Value} {τ τ' : Mm} (hy : plainName y.cls = true) (hc : y.cls = RX7) (hlen : ∀ (aK : Nat → Nat) (o : Nat), (lg_sl (.ref o :: As aK)).length ≤ nL)
    (body : ∀ (p : Program) (l : Launch) (e : Env) (s : State) (m : MethodId) (args : Array Value) (below : List Frame) (meth : Method) (c : Code) (D : va_G) (cI cZ : ClassId) (o z : Nat) (aK aV : Nat → Nat) (Q : State → Prop) (ls : Array Slot), z ≤ o → p.tables.exec = Jvm.exec → c.code = cd → c.maxLocals = nL → s.vm.findClass RX7 = some m.cls → (∀ w ∈ lw_all, w.before args s = true) → EN D cI cZ z aK aV s →
      (∀ (H : Heap) (locs : List Loc) (pc : Nat) (ls : Array Slot), IT D cI cZ o s H locs τ' → decode cd pc = .ok (.return_, 1) → W p l e ({ frames := fr, cells := 0, slots := 0, locals := lo } : Room) s m args below meth c H locs 0 0 Q (F0 m pc ls [])) →
      IT D cI cZ o s s.heap [] τ → lv_has ls nL (lv_args 0 (.ref o :: As aK)) → W p l e ({ frames := fr, cells := 0, slots := 0, locals := lo } : Room) s m args below meth c s.heap [] 0 0 Q (F0 m 0 ls [])) : TMv y cd nL none fr lo As τ τ' := by
  intro l D cI cZ o z aK aV hz
  refine Met.ofW (cc := cd) (maxL := nL) (ret := none) hy rfl ?_
  intro p e s m args below meth c s₁ B hml hv
  obtain ⟨rfl, hP, hE⟩ := hv
  have hts := atoms_spec (ws := ws_ y cd nL none) B.pre
  have hts : ∀ w ∈ lw_all, w.before _ s = true := fun w h => hts w (List.mem_cons_of_mem _ h)
  have hown : s.vm.findClass RX7 = some m.cls := by rw [← hc]; exact findClass_of_methodNamed B.named
  have hl := lv_entry (.ref o :: As aK) (n := nL) (hlen aK o)
  rw [lg_entry_eq]
  generalize (lg_sl (.ref o :: As aK) ++ List.replicate (nL - (lg_sl (.ref o :: As aK)).length) Slot.unset).toArray = ls at hl ⊢
  exact body p l e s m _ below meth c D cI cZ o z aK aV _ ls hz B.exec B.bytes hml hown hts hE (fun H locs pc ls hI hdg => tretV B.exec B.bytes B.returns B.notSynchronized hI hdg) ⟨hP, va_S.rf⟩ hl
/-- a static method that reads its arguments alone -/
theorem SMi.of {y : MethodName} {cd : ByteArray} {nL fr lo : Nat} {As : List Value} {r : Int32} (hy : plainName y.cls = true) (hlen : (lg_sl As).length ≤ nL)
    (body : ∀ (p : Program) (l : Launch) (e : Env) (s : State) (m : MethodId) (args : Array Value) (below : List Frame) (meth : Method) (c : Code) (Q : State → Prop) (ls : Array Slot), p.tables.exec = Jvm.exec → c.code = cd → c.maxLocals = nL → s.vm.findClass y.cls = some m.cls → (∀ w ∈ lw_all, w.before args s = true) →
      (∀ (pc : Nat) (ls : Array Slot), decode cd pc = .ok (.ireturn, 1) → W p l e ({ frames := fr, cells := 0, slots := 0, locals := lo } : Room) s m args below meth c s.heap [] 0 0 Q (F0 m pc ls [.int r])) →
      lv_has ls nL (lv_args 0 As) → W p l e ({ frames := fr, cells := 0, slots := 0, locals := lo } : Room) s m args below meth c s.heap [] 0 0 Q (F0 m 0 ls [])) : SMi y cd nL (some .int) fr lo As r := by
  intro l
  refine Met.ofW (cc := cd) (maxL := nL) (ret := some .int) hy rfl ?_
  intro p e s m args below meth c s₁ B hml hv
  obtain ⟨rfl, -⟩ := hv
  have hts := atoms_spec (ws := ws_ y cd nL (some .int)) B.pre
  have hts : ∀ w ∈ lw_all, w.before _ s = true := fun w h => hts w (List.mem_cons_of_mem _ h)
  have hl := lv_entry As (n := nL) hlen
  rw [lg_entry_eq]
  generalize (lg_sl As ++ List.replicate (nL - (lg_sl As).length) Slot.unset).toArray = ls at hl ⊢
  exact body p l e s m _ below meth c _ ls B.exec B.bytes hml (findClass_of_methodNamed B.named) hts (fun pc ls hdg => sretI B.exec B.bytes B.returns B.notSynchronized rfl hdg) hl
theorem SMz.of {y : MethodName} {cd : ByteArray} {nL fr lo : Nat} {As : List Value} {r : Int32} (hy : plainName y.cls = true) (hlen : (lg_sl As).length ≤ nL)
    (body : ∀ (p : Program) (l : Launch) (e : Env) (s : State) (m : MethodId) (args : Array Value) (below : List Frame) (meth : Method) (c : Code) (Q : State → Prop) (ls : Array Slot), p.tables.exec = Jvm.exec → c.code = cd → c.maxLocals = nL → s.vm.findClass y.cls = some m.cls → (∀ w ∈ lw_all, w.before args s = true) →
      (∀ (pc : Nat) (ls : Array Slot), (r = 0 ∨ r = 1) → decode cd pc = .ok (.ireturn, 1) → W p l e ({ frames := fr, cells := 0, slots := 0, locals := lo } : Room) s m args below meth c s.heap [] 0 0 Q (F0 m pc ls [.int r])) →
      lv_has ls nL (lv_args 0 As) → W p l e ({ frames := fr, cells := 0, slots := 0, locals := lo } : Room) s m args below meth c s.heap [] 0 0 Q (F0 m 0 ls [])) : SMi y cd nL (some .boolean) fr lo As r := by
  intro l
  refine Met.ofW (cc := cd) (maxL := nL) (ret := some .boolean) hy rfl ?_
  intro p e s m args below meth c s₁ B hml hv
  obtain ⟨rfl, -⟩ := hv
  have hts := atoms_spec (ws := ws_ y cd nL (some .boolean)) B.pre
  have hts : ∀ w ∈ lw_all, w.before _ s = true := fun w h => hts w (List.mem_cons_of_mem _ h)
  have hl := lv_entry As (n := nL) hlen
  rw [lg_entry_eq]
  generalize (lg_sl As ++ List.replicate (nL - (lg_sl As).length) Slot.unset).toArray = ls at hl ⊢
  exact body p l e s m _ below meth c _ ls B.exec B.bytes hml (findClass_of_methodNamed B.named) hts (fun pc ls h01 hdg => sretZ B.exec B.bytes B.returns B.notSynchronized rfl h01 hdg) hl
