set_option maxRecDepth 100000
abbrev cJ6_init : ByteArray := prog_38_method_53_code
def yJ6_init : MethodName := ⟨RJ6, "<init>", "(Ljava/lang/StringBuilder;)V"⟩
def dkwJ6_init_0 : List UInt8 := [42, 43, 1, 183, 1, 233, 177]
abbrev dktJ6_init_0 : List UInt8 := dkwJ6_init_0 ++ []
theorem dksJ6_init_0 : cJ6_init.data.toList.drop 0 = dktJ6_init_0 := by decide +kernel
theorem dJ6_init_0 : decode cJ6_init 0 = .ok (.aload_n 0, 1) := dk_42 (dk_at dksJ6_init_0 0 rfl rfl)
theorem dJ6_init_1 : decode cJ6_init 1 = .ok (.aload_n 1, 1) := dk_43 (dk_at dksJ6_init_0 1 rfl rfl)
theorem dJ6_init_2 : decode cJ6_init 2 = .ok (.aconst_null, 1) := dk_1 (dk_at dksJ6_init_0 2 rfl rfl)
theorem dJ6_init_3 : decode cJ6_init 3 = .ok (.invokespecial 489, 3) := dk_183 1 233 (dk_at dksJ6_init_0 3 rfl rfl)
theorem dJ6_init_6 : decode cJ6_init 6 = .ok (.return_, 1) := dk_177 (dk_at dksJ6_init_0 6 rfl rfl)
abbrev cJ6_init_2 : ByteArray := prog_38_method_150_code
def yJ6_init_2 : MethodName := ⟨RJ6, "<init>", "(Ljava/lang/AbstractStringBuilder;Ljava/lang/Void;)V"⟩
def dkwJ6_init_2_4 : List UInt8 := [181, 0, 9, 177]
abbrev dktJ6_init_2_4 : List UInt8 := dkwJ6_init_2_4 ++ []
def dkwJ6_init_2_3 : List UInt8 := [184, 0, 47, 181, 0, 15, 177, 42, 4, 181, 0, 15, 42, 45, 3, 21, 4, 4, 120, 184, 0, 54]
abbrev dktJ6_init_2_3 : List UInt8 := dkwJ6_init_2_3 ++ dktJ6_init_2_4
def dkwJ6_init_2_2 : List UInt8 := [180, 4, 24, 153, 0, 28, 42, 45, 3, 21, 4, 184, 4, 27, 181, 0, 9, 42, 42, 180, 0, 9, 21, 4]
abbrev dktJ6_init_2_2 : List UInt8 := dkwJ6_init_2_2 ++ dktJ6_init_2_3
def dkwJ6_init_2_1 : List UInt8 := [181, 0, 15, 42, 45, 3, 21, 4, 184, 0, 54, 181, 0, 9, 167, 0, 59, 178, 0, 38, 153, 0, 35, 43]
abbrev dktJ6_init_2_1 : List UInt8 := dkwJ6_init_2_1 ++ dktJ6_init_2_2
def dkwJ6_init_2_0 : List UInt8 := [42, 183, 0, 1, 43, 182, 2, 40, 78, 43, 182, 2, 37, 54, 4, 43, 182, 4, 23, 153, 0, 22, 42, 3]
abbrev dktJ6_init_2_0 : List UInt8 := dkwJ6_init_2_0 ++ dktJ6_init_2_1
theorem dksJ6_init_2_0 : cJ6_init_2.data.toList.drop 0 = dktJ6_init_2_0 := by decide +kernel
theorem dksJ6_init_2_1 : cJ6_init_2.data.toList.drop 24 = dktJ6_init_2_1 := dk_seg dksJ6_init_2_0 24 rfl rfl
theorem dksJ6_init_2_2 : cJ6_init_2.data.toList.drop 48 = dktJ6_init_2_2 := dk_seg dksJ6_init_2_1 24 rfl rfl
theorem dksJ6_init_2_3 : cJ6_init_2.data.toList.drop 72 = dktJ6_init_2_3 := dk_seg dksJ6_init_2_2 24 rfl rfl
theorem dksJ6_init_2_4 : cJ6_init_2.data.toList.drop 94 = dktJ6_init_2_4 := dk_seg dksJ6_init_2_3 22 rfl rfl
theorem dJ6_init_2_0 : decode cJ6_init_2 0 = .ok (.aload_n 0, 1) := dk_42 (dk_at dksJ6_init_2_0 0 rfl rfl)
theorem dJ6_init_2_1 : decode cJ6_init_2 1 = .ok (.invokespecial 1, 3) := dk_183 0 1 (dk_at dksJ6_init_2_0 1 rfl rfl)
theorem dJ6_init_2_4 : decode cJ6_init_2 4 = .ok (.aload_n 1, 1) := dk_43 (dk_at dksJ6_init_2_0 4 rfl rfl)
theorem dJ6_init_2_5 : decode cJ6_init_2 5 = .ok (.invokevirtual 552, 3) := dk_182 2 40 (dk_at dksJ6_init_2_0 5 rfl rfl)
theorem dJ6_init_2_8 : decode cJ6_init_2 8 = .ok (.astore_n 3, 1) := dk_78 (dk_at dksJ6_init_2_0 8 rfl rfl)
theorem dJ6_init_2_9 : decode cJ6_init_2 9 = .ok (.aload_n 1, 1) := dk_43 (dk_at dksJ6_init_2_0 9 rfl rfl)
theorem dJ6_init_2_10 : decode cJ6_init_2 10 = .ok (.invokevirtual 549, 3) := dk_182 2 37 (dk_at dksJ6_init_2_0 10 rfl rfl)
theorem dJ6_init_2_13 : decode cJ6_init_2 13 = .ok (.istore 4, 2) := dk_54 4 (dk_at dksJ6_init_2_0 13 rfl rfl)
theorem dJ6_init_2_15 : decode cJ6_init_2 15 = .ok (.aload_n 1, 1) := dk_43 (dk_at dksJ6_init_2_0 15 rfl rfl)
theorem dJ6_init_2_16 : decode cJ6_init_2 16 = .ok (.invokevirtual 1047, 3) := dk_182 4 23 (dk_at dksJ6_init_2_0 16 rfl rfl)
theorem dJ6_init_2_19 : decode cJ6_init_2 19 = .ok (.ifCond .eq 22, 3) := dk_153 0 22 (dk_at dksJ6_init_2_0 19 rfl rfl)
theorem dJ6_init_2_22 : decode cJ6_init_2 22 = .ok (.aload_n 0, 1) := dk_42 (dk_at dksJ6_init_2_0 22 rfl rfl)
theorem dJ6_init_2_23 : decode cJ6_init_2 23 = .ok (.iconst 0, 1) := dk_3 (dk_at dksJ6_init_2_0 23 rfl rfl)
theorem dJ6_init_2_24 : decode cJ6_init_2 24 = .ok (.putfield 15, 3) := dk_181 0 15 (dk_at dksJ6_init_2_1 0 rfl rfl)
theorem dJ6_init_2_27 : decode cJ6_init_2 27 = .ok (.aload_n 0, 1) := dk_42 (dk_at dksJ6_init_2_1 3 rfl rfl)
theorem dJ6_init_2_28 : decode cJ6_init_2 28 = .ok (.aload_n 3, 1) := dk_45 (dk_at dksJ6_init_2_1 4 rfl rfl)
theorem dJ6_init_2_29 : decode cJ6_init_2 29 = .ok (.iconst 0, 1) := dk_3 (dk_at dksJ6_init_2_1 5 rfl rfl)
theorem dJ6_init_2_30 : decode cJ6_init_2 30 = .ok (.iload 4, 2) := dk_21 4 (dk_at dksJ6_init_2_1 6 rfl rfl)
theorem dJ6_init_2_32 : decode cJ6_init_2 32 = .ok (.invokestatic 54, 3) := dk_184 0 54 (dk_at dksJ6_init_2_1 8 rfl rfl)
theorem dJ6_init_2_35 : decode cJ6_init_2 35 = .ok (.putfield 9, 3) := dk_181 0 9 (dk_at dksJ6_init_2_1 11 rfl rfl)
theorem dJ6_init_2_38 : decode cJ6_init_2 38 = .ok (.goto 59, 3) := dk_167 0 59 (dk_at dksJ6_init_2_1 14 rfl rfl)
theorem dJ6_init_2_41 : decode cJ6_init_2 41 = .ok (.getstatic 38, 3) := dk_178 0 38 (dk_at dksJ6_init_2_1 17 rfl rfl)
theorem dJ6_init_2_44 : decode cJ6_init_2 44 = .ok (.ifCond .eq 35, 3) := dk_153 0 35 (dk_at dksJ6_init_2_1 20 rfl rfl)
theorem dJ6_init_2_47 : decode cJ6_init_2 47 = .ok (.aload_n 1, 1) := dk_43 (dk_at dksJ6_init_2_1 23 rfl rfl)
theorem dJ6_init_2_48 : decode cJ6_init_2 48 = .ok (.getfield 1048, 3) := dk_180 4 24 (dk_at dksJ6_init_2_2 0 rfl rfl)
theorem dJ6_init_2_51 : decode cJ6_init_2 51 = .ok (.ifCond .eq 28, 3) := dk_153 0 28 (dk_at dksJ6_init_2_2 3 rfl rfl)
theorem dJ6_init_2_54 : decode cJ6_init_2 54 = .ok (.aload_n 0, 1) := dk_42 (dk_at dksJ6_init_2_2 6 rfl rfl)
theorem dJ6_init_2_55 : decode cJ6_init_2 55 = .ok (.aload_n 3, 1) := dk_45 (dk_at dksJ6_init_2_2 7 rfl rfl)
theorem dJ6_init_2_56 : decode cJ6_init_2 56 = .ok (.iconst 0, 1) := dk_3 (dk_at dksJ6_init_2_2 8 rfl rfl)
theorem dJ6_init_2_57 : decode cJ6_init_2 57 = .ok (.iload 4, 2) := dk_21 4 (dk_at dksJ6_init_2_2 9 rfl rfl)
theorem dJ6_init_2_59 : decode cJ6_init_2 59 = .ok (.invokestatic 1051, 3) := dk_184 4 27 (dk_at dksJ6_init_2_2 11 rfl rfl)
theorem dJ6_init_2_62 : decode cJ6_init_2 62 = .ok (.putfield 9, 3) := dk_181 0 9 (dk_at dksJ6_init_2_2 14 rfl rfl)
theorem dJ6_init_2_65 : decode cJ6_init_2 65 = .ok (.aload_n 0, 1) := dk_42 (dk_at dksJ6_init_2_2 17 rfl rfl)
theorem dJ6_init_2_66 : decode cJ6_init_2 66 = .ok (.aload_n 0, 1) := dk_42 (dk_at dksJ6_init_2_2 18 rfl rfl)
theorem dJ6_init_2_67 : decode cJ6_init_2 67 = .ok (.getfield 9, 3) := dk_180 0 9 (dk_at dksJ6_init_2_2 19 rfl rfl)
theorem dJ6_init_2_70 : decode cJ6_init_2 70 = .ok (.iload 4, 2) := dk_21 4 (dk_at dksJ6_init_2_2 22 rfl rfl)
theorem dJ6_init_2_72 : decode cJ6_init_2 72 = .ok (.invokestatic 47, 3) := dk_184 0 47 (dk_at dksJ6_init_2_3 0 rfl rfl)
theorem dJ6_init_2_75 : decode cJ6_init_2 75 = .ok (.putfield 15, 3) := dk_181 0 15 (dk_at dksJ6_init_2_3 3 rfl rfl)
theorem dJ6_init_2_78 : decode cJ6_init_2 78 = .ok (.return_, 1) := dk_177 (dk_at dksJ6_init_2_3 6 rfl rfl)
theorem dJ6_init_2_79 : decode cJ6_init_2 79 = .ok (.aload_n 0, 1) := dk_42 (dk_at dksJ6_init_2_3 7 rfl rfl)
theorem dJ6_init_2_80 : decode cJ6_init_2 80 = .ok (.iconst 1, 1) := dk_4 (dk_at dksJ6_init_2_3 8 rfl rfl)
theorem dJ6_init_2_81 : decode cJ6_init_2 81 = .ok (.putfield 15, 3) := dk_181 0 15 (dk_at dksJ6_init_2_3 9 rfl rfl)
theorem dJ6_init_2_84 : decode cJ6_init_2 84 = .ok (.aload_n 0, 1) := dk_42 (dk_at dksJ6_init_2_3 12 rfl rfl)
theorem dJ6_init_2_85 : decode cJ6_init_2 85 = .ok (.aload_n 3, 1) := dk_45 (dk_at dksJ6_init_2_3 13 rfl rfl)
theorem dJ6_init_2_86 : decode cJ6_init_2 86 = .ok (.iconst 0, 1) := dk_3 (dk_at dksJ6_init_2_3 14 rfl rfl)
theorem dJ6_init_2_87 : decode cJ6_init_2 87 = .ok (.iload 4, 2) := dk_21 4 (dk_at dksJ6_init_2_3 15 rfl rfl)
theorem dJ6_init_2_89 : decode cJ6_init_2 89 = .ok (.iconst 1, 1) := dk_4 (dk_at dksJ6_init_2_3 17 rfl rfl)
theorem dJ6_init_2_90 : decode cJ6_init_2 90 = .ok (.ishl, 1) := dk_120 (dk_at dksJ6_init_2_3 18 rfl rfl)
theorem dJ6_init_2_91 : decode cJ6_init_2 91 = .ok (.invokestatic 54, 3) := dk_184 0 54 (dk_at dksJ6_init_2_3 19 rfl rfl)
theorem dJ6_init_2_94 : decode cJ6_init_2 94 = .ok (.putfield 9, 3) := dk_181 0 9 (dk_at dksJ6_init_2_4 0 rfl rfl)
theorem dJ6_init_2_97 : decode cJ6_init_2 97 = .ok (.return_, 1) := dk_177 (dk_at dksJ6_init_2_4 3 rfl rfl)
abbrev cJ6_hashCode : ByteArray := prog_38_method_78_code
def yJ6_hashCode : MethodName := ⟨RJ6, "hashCode", "()I"⟩
def dkwJ6_hashCode_2 : List UInt8 := [181, 0, 23, 167, 0, 8, 42, 27, 181, 0, 19, 27, 172]
abbrev dktJ6_hashCode_2 : List UInt8 := dkwJ6_hashCode_2 ++ []
def dkwJ6_hashCode_1 : List UInt8 := [180, 0, 9, 184, 2, 116, 167, 0, 10, 42, 180, 0, 9, 184, 2, 120, 60, 27, 154, 0, 11, 42, 4]
abbrev dktJ6_hashCode_1 : List UInt8 := dkwJ6_hashCode_1 ++ dktJ6_hashCode_2
def dkwJ6_hashCode_0 : List UInt8 := [42, 180, 0, 19, 60, 27, 154, 0, 52, 42, 180, 0, 23, 154, 0, 45, 42, 182, 1, 236, 153, 0, 13, 42]
abbrev dktJ6_hashCode_0 : List UInt8 := dkwJ6_hashCode_0 ++ dktJ6_hashCode_1
theorem dksJ6_hashCode_0 : cJ6_hashCode.data.toList.drop 0 = dktJ6_hashCode_0 := by decide +kernel
theorem dksJ6_hashCode_1 : cJ6_hashCode.data.toList.drop 24 = dktJ6_hashCode_1 := dk_seg dksJ6_hashCode_0 24 rfl rfl
theorem dksJ6_hashCode_2 : cJ6_hashCode.data.toList.drop 47 = dktJ6_hashCode_2 := dk_seg dksJ6_hashCode_1 23 rfl rfl
theorem dJ6_hashCode_0 : decode cJ6_hashCode 0 = .ok (.aload_n 0, 1) := dk_42 (dk_at dksJ6_hashCode_0 0 rfl rfl)
theorem dJ6_hashCode_1 : decode cJ6_hashCode 1 = .ok (.getfield 19, 3) := dk_180 0 19 (dk_at dksJ6_hashCode_0 1 rfl rfl)
theorem dJ6_hashCode_4 : decode cJ6_hashCode 4 = .ok (.istore_n 1, 1) := dk_60 (dk_at dksJ6_hashCode_0 4 rfl rfl)
theorem dJ6_hashCode_5 : decode cJ6_hashCode 5 = .ok (.iload_n 1, 1) := dk_27 (dk_at dksJ6_hashCode_0 5 rfl rfl)
theorem dJ6_hashCode_6 : decode cJ6_hashCode 6 = .ok (.ifCond .ne 52, 3) := dk_154 0 52 (dk_at dksJ6_hashCode_0 6 rfl rfl)
theorem dJ6_hashCode_9 : decode cJ6_hashCode 9 = .ok (.aload_n 0, 1) := dk_42 (dk_at dksJ6_hashCode_0 9 rfl rfl)
theorem dJ6_hashCode_10 : decode cJ6_hashCode 10 = .ok (.getfield 23, 3) := dk_180 0 23 (dk_at dksJ6_hashCode_0 10 rfl rfl)
theorem dJ6_hashCode_13 : decode cJ6_hashCode 13 = .ok (.ifCond .ne 45, 3) := dk_154 0 45 (dk_at dksJ6_hashCode_0 13 rfl rfl)
theorem dJ6_hashCode_16 : decode cJ6_hashCode 16 = .ok (.aload_n 0, 1) := dk_42 (dk_at dksJ6_hashCode_0 16 rfl rfl)
theorem dJ6_hashCode_17 : decode cJ6_hashCode 17 = .ok (.invokevirtual 492, 3) := dk_182 1 236 (dk_at dksJ6_hashCode_0 17 rfl rfl)
theorem dJ6_hashCode_20 : decode cJ6_hashCode 20 = .ok (.ifCond .eq 13, 3) := dk_153 0 13 (dk_at dksJ6_hashCode_0 20 rfl rfl)
theorem dJ6_hashCode_23 : decode cJ6_hashCode 23 = .ok (.aload_n 0, 1) := dk_42 (dk_at dksJ6_hashCode_0 23 rfl rfl)
theorem dJ6_hashCode_24 : decode cJ6_hashCode 24 = .ok (.getfield 9, 3) := dk_180 0 9 (dk_at dksJ6_hashCode_1 0 rfl rfl)
theorem dJ6_hashCode_27 : decode cJ6_hashCode 27 = .ok (.invokestatic 628, 3) := dk_184 2 116 (dk_at dksJ6_hashCode_1 3 rfl rfl)
theorem dJ6_hashCode_30 : decode cJ6_hashCode 30 = .ok (.goto 10, 3) := dk_167 0 10 (dk_at dksJ6_hashCode_1 6 rfl rfl)
theorem dJ6_hashCode_33 : decode cJ6_hashCode 33 = .ok (.aload_n 0, 1) := dk_42 (dk_at dksJ6_hashCode_1 9 rfl rfl)
theorem dJ6_hashCode_34 : decode cJ6_hashCode 34 = .ok (.getfield 9, 3) := dk_180 0 9 (dk_at dksJ6_hashCode_1 10 rfl rfl)
theorem dJ6_hashCode_37 : decode cJ6_hashCode 37 = .ok (.invokestatic 632, 3) := dk_184 2 120 (dk_at dksJ6_hashCode_1 13 rfl rfl)
theorem dJ6_hashCode_40 : decode cJ6_hashCode 40 = .ok (.istore_n 1, 1) := dk_60 (dk_at dksJ6_hashCode_1 16 rfl rfl)
theorem dJ6_hashCode_41 : decode cJ6_hashCode 41 = .ok (.iload_n 1, 1) := dk_27 (dk_at dksJ6_hashCode_1 17 rfl rfl)
theorem dJ6_hashCode_42 : decode cJ6_hashCode 42 = .ok (.ifCond .ne 11, 3) := dk_154 0 11 (dk_at dksJ6_hashCode_1 18 rfl rfl)
theorem dJ6_hashCode_45 : decode cJ6_hashCode 45 = .ok (.aload_n 0, 1) := dk_42 (dk_at dksJ6_hashCode_1 21 rfl rfl)
theorem dJ6_hashCode_46 : decode cJ6_hashCode 46 = .ok (.iconst 1, 1) := dk_4 (dk_at dksJ6_hashCode_1 22 rfl rfl)
theorem dJ6_hashCode_47 : decode cJ6_hashCode 47 = .ok (.putfield 23, 3) := dk_181 0 23 (dk_at dksJ6_hashCode_2 0 rfl rfl)
theorem dJ6_hashCode_50 : decode cJ6_hashCode 50 = .ok (.goto 8, 3) := dk_167 0 8 (dk_at dksJ6_hashCode_2 3 rfl rfl)
theorem dJ6_hashCode_53 : decode cJ6_hashCode 53 = .ok (.aload_n 0, 1) := dk_42 (dk_at dksJ6_hashCode_2 6 rfl rfl)
theorem dJ6_hashCode_54 : decode cJ6_hashCode 54 = .ok (.iload_n 1, 1) := dk_27 (dk_at dksJ6_hashCode_2 7 rfl rfl)
theorem dJ6_hashCode_55 : decode cJ6_hashCode 55 = .ok (.putfield 19, 3) := dk_181 0 19 (dk_at dksJ6_hashCode_2 8 rfl rfl)
theorem dJ6_hashCode_58 : decode cJ6_hashCode 58 = .ok (.iload_n 1, 1) := dk_27 (dk_at dksJ6_hashCode_2 11 rfl rfl)
theorem dJ6_hashCode_59 : decode cJ6_hashCode 59 = .ok (.ireturn, 1) := dk_172 (dk_at dksJ6_hashCode_2 12 rfl rfl)
abbrev cJ6_equals : ByteArray := prog_38_method_66_code
def yJ6_equals : MethodName := ⟨RJ6, "equals", "(Ljava/lang/Object;)Z"⟩
def dkwJ6_equals_2 : List UInt8 := [184, 2, 29, 153, 0, 7, 4, 167, 0, 4, 3, 172]
abbrev dktJ6_equals_2 : List UInt8 := dkwJ6_equals_2 ++ []
def dkwJ6_equals_1 : List UInt8 := [153, 0, 14, 42, 180, 0, 15, 44, 180, 0, 15, 160, 0, 21, 42, 180, 0, 9, 44, 180, 0, 9]
abbrev dktJ6_equals_1 : List UInt8 := dkwJ6_equals_1 ++ dktJ6_equals_2
def dkwJ6_equals_0 : List UInt8 := [42, 43, 166, 0, 5, 4, 172, 43, 193, 0, 10, 153, 0, 43, 43, 192, 0, 10, 77, 178, 0, 38]
abbrev dktJ6_equals_0 : List UInt8 := dkwJ6_equals_0 ++ dktJ6_equals_1
theorem dksJ6_equals_0 : cJ6_equals.data.toList.drop 0 = dktJ6_equals_0 := by decide +kernel
theorem dksJ6_equals_1 : cJ6_equals.data.toList.drop 22 = dktJ6_equals_1 := dk_seg dksJ6_equals_0 22 rfl rfl
theorem dksJ6_equals_2 : cJ6_equals.data.toList.drop 44 = dktJ6_equals_2 := dk_seg dksJ6_equals_1 22 rfl rfl
theorem dJ6_equals_0 : decode cJ6_equals 0 = .ok (.aload_n 0, 1) := dk_42 (dk_at dksJ6_equals_0 0 rfl rfl)
theorem dJ6_equals_1 : decode cJ6_equals 1 = .ok (.aload_n 1, 1) := dk_43 (dk_at dksJ6_equals_0 1 rfl rfl)
theorem dJ6_equals_2 : decode cJ6_equals 2 = .ok (.if_acmp .ne 5, 3) := dk_166 0 5 (dk_at dksJ6_equals_0 2 rfl rfl)
theorem dJ6_equals_5 : decode cJ6_equals 5 = .ok (.iconst 1, 1) := dk_4 (dk_at dksJ6_equals_0 5 rfl rfl)
theorem dJ6_equals_6 : decode cJ6_equals 6 = .ok (.ireturn, 1) := dk_172 (dk_at dksJ6_equals_0 6 rfl rfl)
theorem dJ6_equals_7 : decode cJ6_equals 7 = .ok (.aload_n 1, 1) := dk_43 (dk_at dksJ6_equals_0 7 rfl rfl)
theorem dJ6_equals_8 : decode cJ6_equals 8 = .ok (.instanceof 10, 3) := dk_193 0 10 (dk_at dksJ6_equals_0 8 rfl rfl)
theorem dJ6_equals_11 : decode cJ6_equals 11 = .ok (.ifCond .eq 43, 3) := dk_153 0 43 (dk_at dksJ6_equals_0 11 rfl rfl)
theorem dJ6_equals_14 : decode cJ6_equals 14 = .ok (.aload_n 1, 1) := dk_43 (dk_at dksJ6_equals_0 14 rfl rfl)
theorem dJ6_equals_15 : decode cJ6_equals 15 = .ok (.checkcast 10, 3) := dk_192 0 10 (dk_at dksJ6_equals_0 15 rfl rfl)
theorem dJ6_equals_18 : decode cJ6_equals 18 = .ok (.astore_n 2, 1) := dk_77 (dk_at dksJ6_equals_0 18 rfl rfl)
theorem dJ6_equals_19 : decode cJ6_equals 19 = .ok (.getstatic 38, 3) := dk_178 0 38 (dk_at dksJ6_equals_0 19 rfl rfl)
theorem dJ6_equals_22 : decode cJ6_equals 22 = .ok (.ifCond .eq 14, 3) := dk_153 0 14 (dk_at dksJ6_equals_1 0 rfl rfl)
theorem dJ6_equals_25 : decode cJ6_equals 25 = .ok (.aload_n 0, 1) := dk_42 (dk_at dksJ6_equals_1 3 rfl rfl)
theorem dJ6_equals_26 : decode cJ6_equals 26 = .ok (.getfield 15, 3) := dk_180 0 15 (dk_at dksJ6_equals_1 4 rfl rfl)
theorem dJ6_equals_29 : decode cJ6_equals 29 = .ok (.aload_n 2, 1) := dk_44 (dk_at dksJ6_equals_1 7 rfl rfl)
theorem dJ6_equals_30 : decode cJ6_equals 30 = .ok (.getfield 15, 3) := dk_180 0 15 (dk_at dksJ6_equals_1 8 rfl rfl)
theorem dJ6_equals_33 : decode cJ6_equals 33 = .ok (.if_icmp .ne 21, 3) := dk_160 0 21 (dk_at dksJ6_equals_1 11 rfl rfl)
theorem dJ6_equals_36 : decode cJ6_equals 36 = .ok (.aload_n 0, 1) := dk_42 (dk_at dksJ6_equals_1 14 rfl rfl)
theorem dJ6_equals_37 : decode cJ6_equals 37 = .ok (.getfield 9, 3) := dk_180 0 9 (dk_at dksJ6_equals_1 15 rfl rfl)
theorem dJ6_equals_40 : decode cJ6_equals 40 = .ok (.aload_n 2, 1) := dk_44 (dk_at dksJ6_equals_1 18 rfl rfl)
theorem dJ6_equals_41 : decode cJ6_equals 41 = .ok (.getfield 9, 3) := dk_180 0 9 (dk_at dksJ6_equals_1 19 rfl rfl)
theorem dJ6_equals_44 : decode cJ6_equals 44 = .ok (.invokestatic 541, 3) := dk_184 2 29 (dk_at dksJ6_equals_2 0 rfl rfl)
theorem dJ6_equals_47 : decode cJ6_equals 47 = .ok (.ifCond .eq 7, 3) := dk_153 0 7 (dk_at dksJ6_equals_2 3 rfl rfl)
theorem dJ6_equals_50 : decode cJ6_equals 50 = .ok (.iconst 1, 1) := dk_4 (dk_at dksJ6_equals_2 6 rfl rfl)
theorem dJ6_equals_51 : decode cJ6_equals 51 = .ok (.goto 4, 3) := dk_167 0 4 (dk_at dksJ6_equals_2 7 rfl rfl)
theorem dJ6_equals_54 : decode cJ6_equals 54 = .ok (.iconst 0, 1) := dk_3 (dk_at dksJ6_equals_2 10 rfl rfl)
theorem dJ6_equals_55 : decode cJ6_equals 55 = .ok (.ireturn, 1) := dk_172 (dk_at dksJ6_equals_2 11 rfl rfl)
abbrev cJ10_canEncode : ByteArray := prog_40_method_3_code
def yJ10_canEncode : MethodName := ⟨RJ10, "canEncode", "(C)Z"⟩
def dkwJ10_canEncode_0 : List UInt8 := [26, 17, 0, 255, 163, 0, 7, 4, 167, 0, 4, 3, 172]
abbrev dktJ10_canEncode_0 : List UInt8 := dkwJ10_canEncode_0 ++ []
theorem dksJ10_canEncode_0 : cJ10_canEncode.data.toList.drop 0 = dktJ10_canEncode_0 := by decide +kernel
theorem dJ10_canEncode_0 : decode cJ10_canEncode 0 = .ok (.iload_n 0, 1) := dk_26 (dk_at dksJ10_canEncode_0 0 rfl rfl)
theorem dJ10_canEncode_1 : decode cJ10_canEncode 1 = .ok (.sipush 255, 3) := dk_17 0 255 (dk_at dksJ10_canEncode_0 1 rfl rfl)
theorem dJ10_canEncode_4 : decode cJ10_canEncode 4 = .ok (.if_icmp .gt 7, 3) := dk_163 0 7 (dk_at dksJ10_canEncode_0 4 rfl rfl)
theorem dJ10_canEncode_7 : decode cJ10_canEncode 7 = .ok (.iconst 1, 1) := dk_4 (dk_at dksJ10_canEncode_0 7 rfl rfl)
theorem dJ10_canEncode_8 : decode cJ10_canEncode 8 = .ok (.goto 4, 3) := dk_167 0 4 (dk_at dksJ10_canEncode_0 8 rfl rfl)
theorem dJ10_canEncode_11 : decode cJ10_canEncode 11 = .ok (.iconst 0, 1) := dk_3 (dk_at dksJ10_canEncode_0 11 rfl rfl)
theorem dJ10_canEncode_12 : decode cJ10_canEncode 12 = .ok (.ireturn, 1) := dk_172 (dk_at dksJ10_canEncode_0 12 rfl rfl)
abbrev cJ10_hashCode : ByteArray := prog_40_method_21_code
def yJ10_hashCode : MethodName := ⟨RJ10, "hashCode", "([B)I"⟩
def dkwJ10_hashCode_2 : List UInt8 := [3, 167, 0, 22, 42, 3, 51, 17, 0, 255, 126, 167, 0, 12, 42, 3, 42, 190, 3, 7, 184, 0, 84, 172]
abbrev dktJ10_hashCode_2 : List UInt8 := dkwJ10_hashCode_2 ++ []
def dkwJ10_hashCode_1 : List UInt8 := [171, 0, 0, 0, 0, 40, 0, 0, 0, 2, 0, 0, 0, 0, 0, 0, 0, 26, 0, 0, 0, 1, 0, 0, 0, 30]
abbrev dktJ10_hashCode_1 : List UInt8 := dkwJ10_hashCode_1 ++ dktJ10_hashCode_2
def dkwJ10_hashCode_0 : List UInt8 := [42, 190]
abbrev dktJ10_hashCode_0 : List UInt8 := dkwJ10_hashCode_0 ++ dktJ10_hashCode_1
theorem dksJ10_hashCode_0 : cJ10_hashCode.data.toList.drop 0 = dktJ10_hashCode_0 := by decide +kernel
theorem dksJ10_hashCode_1 : cJ10_hashCode.data.toList.drop 2 = dktJ10_hashCode_1 := dk_seg dksJ10_hashCode_0 2 rfl rfl
theorem dksJ10_hashCode_2 : cJ10_hashCode.data.toList.drop 28 = dktJ10_hashCode_2 := dk_seg dksJ10_hashCode_1 26 rfl rfl
theorem dJ10_hashCode_0 : decode cJ10_hashCode 0 = .ok (.aload_n 0, 1) := dk_42 (dk_at dksJ10_hashCode_0 0 rfl rfl)
theorem dJ10_hashCode_1 : decode cJ10_hashCode 1 = .ok (.arraylength, 1) := dk_190 (dk_at dksJ10_hashCode_0 1 rfl rfl)
theorem dJ10_hashCode_2 : decode cJ10_hashCode 2 = .ok (.lookupswitch 40 #[(0, 26), (1, 30)], 26) := by decide +kernel
theorem dJ10_hashCode_28 : decode cJ10_hashCode 28 = .ok (.iconst 0, 1) := dk_3 (dk_at dksJ10_hashCode_2 0 rfl rfl)
theorem dJ10_hashCode_29 : decode cJ10_hashCode 29 = .ok (.goto 22, 3) := dk_167 0 22 (dk_at dksJ10_hashCode_2 1 rfl rfl)
theorem dJ10_hashCode_32 : decode cJ10_hashCode 32 = .ok (.aload_n 0, 1) := dk_42 (dk_at dksJ10_hashCode_2 4 rfl rfl)
theorem dJ10_hashCode_33 : decode cJ10_hashCode 33 = .ok (.iconst 0, 1) := dk_3 (dk_at dksJ10_hashCode_2 5 rfl rfl)
theorem dJ10_hashCode_34 : decode cJ10_hashCode 34 = .ok (.baload, 1) := dk_51 (dk_at dksJ10_hashCode_2 6 rfl rfl)
theorem dJ10_hashCode_35 : decode cJ10_hashCode 35 = .ok (.sipush 255, 3) := dk_17 0 255 (dk_at dksJ10_hashCode_2 7 rfl rfl)
theorem dJ10_hashCode_38 : decode cJ10_hashCode 38 = .ok (.iand, 1) := dk_126 (dk_at dksJ10_hashCode_2 10 rfl rfl)
theorem dJ10_hashCode_39 : decode cJ10_hashCode 39 = .ok (.goto 12, 3) := dk_167 0 12 (dk_at dksJ10_hashCode_2 11 rfl rfl)
theorem dJ10_hashCode_42 : decode cJ10_hashCode 42 = .ok (.aload_n 0, 1) := dk_42 (dk_at dksJ10_hashCode_2 14 rfl rfl)
theorem dJ10_hashCode_43 : decode cJ10_hashCode 43 = .ok (.iconst 0, 1) := dk_3 (dk_at dksJ10_hashCode_2 15 rfl rfl)
theorem dJ10_hashCode_44 : decode cJ10_hashCode 44 = .ok (.aload_n 0, 1) := dk_42 (dk_at dksJ10_hashCode_2 16 rfl rfl)
theorem dJ10_hashCode_45 : decode cJ10_hashCode 45 = .ok (.arraylength, 1) := dk_190 (dk_at dksJ10_hashCode_2 17 rfl rfl)
theorem dJ10_hashCode_46 : decode cJ10_hashCode 46 = .ok (.iconst 0, 1) := dk_3 (dk_at dksJ10_hashCode_2 18 rfl rfl)
theorem dJ10_hashCode_47 : decode cJ10_hashCode 47 = .ok (.iconst 4, 1) := dk_7 (dk_at dksJ10_hashCode_2 19 rfl rfl)
theorem dJ10_hashCode_48 : decode cJ10_hashCode 48 = .ok (.invokestatic 84, 3) := dk_184 0 84 (dk_at dksJ10_hashCode_2 20 rfl rfl)
theorem dJ10_hashCode_51 : decode cJ10_hashCode 51 = .ok (.ireturn, 1) := dk_172 (dk_at dksJ10_hashCode_2 23 rfl rfl)
abbrev cJ10_equals : ByteArray := prog_40_method_13_code
def yJ10_equals : MethodName := ⟨RJ10, "equals", "([B[B)Z"⟩
def dkwJ10_equals_1 : List UInt8 := [3, 172, 132, 2, 1, 167, 255, 236, 4, 172, 3, 172]
abbrev dktJ10_equals_1 : List UInt8 := dkwJ10_equals_1 ++ []
def dkwJ10_equals_0 : List UInt8 := [42, 190, 43, 190, 160, 0, 30, 3, 61, 28, 42, 190, 162, 0, 20, 42, 28, 51, 43, 28, 51, 159, 0, 5]
abbrev dktJ10_equals_0 : List UInt8 := dkwJ10_equals_0 ++ dktJ10_equals_1
theorem dksJ10_equals_0 : cJ10_equals.data.toList.drop 0 = dktJ10_equals_0 := by decide +kernel
theorem dksJ10_equals_1 : cJ10_equals.data.toList.drop 24 = dktJ10_equals_1 := dk_seg dksJ10_equals_0 24 rfl rfl
theorem dJ10_equals_0 : decode cJ10_equals 0 = .ok (.aload_n 0, 1) := dk_42 (dk_at dksJ10_equals_0 0 rfl rfl)
theorem dJ10_equals_1 : decode cJ10_equals 1 = .ok (.arraylength, 1) := dk_190 (dk_at dksJ10_equals_0 1 rfl rfl)
theorem dJ10_equals_2 : decode cJ10_equals 2 = .ok (.aload_n 1, 1) := dk_43 (dk_at dksJ10_equals_0 2 rfl rfl)
theorem dJ10_equals_3 : decode cJ10_equals 3 = .ok (.arraylength, 1) := dk_190 (dk_at dksJ10_equals_0 3 rfl rfl)
theorem dJ10_equals_4 : decode cJ10_equals 4 = .ok (.if_icmp .ne 30, 3) := dk_160 0 30 (dk_at dksJ10_equals_0 4 rfl rfl)
theorem dJ10_equals_7 : decode cJ10_equals 7 = .ok (.iconst 0, 1) := dk_3 (dk_at dksJ10_equals_0 7 rfl rfl)
theorem dJ10_equals_8 : decode cJ10_equals 8 = .ok (.istore_n 2, 1) := dk_61 (dk_at dksJ10_equals_0 8 rfl rfl)
theorem dJ10_equals_9 : decode cJ10_equals 9 = .ok (.iload_n 2, 1) := dk_28 (dk_at dksJ10_equals_0 9 rfl rfl)
theorem dJ10_equals_10 : decode cJ10_equals 10 = .ok (.aload_n 0, 1) := dk_42 (dk_at dksJ10_equals_0 10 rfl rfl)
theorem dJ10_equals_11 : decode cJ10_equals 11 = .ok (.arraylength, 1) := dk_190 (dk_at dksJ10_equals_0 11 rfl rfl)
theorem dJ10_equals_12 : decode cJ10_equals 12 = .ok (.if_icmp .ge 20, 3) := dk_162 0 20 (dk_at dksJ10_equals_0 12 rfl rfl)
theorem dJ10_equals_15 : decode cJ10_equals 15 = .ok (.aload_n 0, 1) := dk_42 (dk_at dksJ10_equals_0 15 rfl rfl)
theorem dJ10_equals_16 : decode cJ10_equals 16 = .ok (.iload_n 2, 1) := dk_28 (dk_at dksJ10_equals_0 16 rfl rfl)
theorem dJ10_equals_17 : decode cJ10_equals 17 = .ok (.baload, 1) := dk_51 (dk_at dksJ10_equals_0 17 rfl rfl)
theorem dJ10_equals_18 : decode cJ10_equals 18 = .ok (.aload_n 1, 1) := dk_43 (dk_at dksJ10_equals_0 18 rfl rfl)
theorem dJ10_equals_19 : decode cJ10_equals 19 = .ok (.iload_n 2, 1) := dk_28 (dk_at dksJ10_equals_0 19 rfl rfl)
theorem dJ10_equals_20 : decode cJ10_equals 20 = .ok (.baload, 1) := dk_51 (dk_at dksJ10_equals_0 20 rfl rfl)
theorem dJ10_equals_21 : decode cJ10_equals 21 = .ok (.if_icmp .eq 5, 3) := dk_159 0 5 (dk_at dksJ10_equals_0 21 rfl rfl)
theorem dJ10_equals_24 : decode cJ10_equals 24 = .ok (.iconst 0, 1) := dk_3 (dk_at dksJ10_equals_1 0 rfl rfl)
theorem dJ10_equals_25 : decode cJ10_equals 25 = .ok (.ireturn, 1) := dk_172 (dk_at dksJ10_equals_1 1 rfl rfl)
theorem dJ10_equals_26 : decode cJ10_equals 26 = .ok (.iinc 2 1, 3) := dk_132 2 1 (dk_at dksJ10_equals_1 2 rfl rfl)
theorem dJ10_equals_29 : decode cJ10_equals 29 = .ok (.goto (-20), 3) := dk_167 255 236 (dk_at dksJ10_equals_1 5 rfl rfl)
theorem dJ10_equals_32 : decode cJ10_equals 32 = .ok (.iconst 1, 1) := dk_4 (dk_at dksJ10_equals_1 8 rfl rfl)
theorem dJ10_equals_33 : decode cJ10_equals 33 = .ok (.ireturn, 1) := dk_172 (dk_at dksJ10_equals_1 9 rfl rfl)
theorem dJ10_equals_34 : decode cJ10_equals 34 = .ok (.iconst 0, 1) := dk_3 (dk_at dksJ10_equals_1 10 rfl rfl)
theorem dJ10_equals_35 : decode cJ10_equals 35 = .ok (.ireturn, 1) := dk_172 (dk_at dksJ10_equals_1 11 rfl rfl)
abbrev cJ8_vectorizedHashCode : ByteArray := prog_59_method_4_code
def yJ8_vectorizedHashCode : MethodName := ⟨RJ8, "vectorizedHashCode", "(Ljava/lang/Object;IIII)I"⟩
def dkwJ8_vectorizedHashCode_6 : List UInt8 := [183, 0, 91, 18, 92, 182, 0, 94, 21, 4, 182, 0, 98, 182, 0, 101, 183, 0, 105, 191, 172]
abbrev dktJ8_vectorizedHashCode_6 : List UInt8 := dkwJ8_vectorizedHashCode_6 ++ []
def dkwJ8_vectorizedHashCode_5 : List UInt8 := [167, 0, 44, 29, 42, 192, 0, 82, 27, 28, 184, 0, 84, 167, 0, 31, 187, 0, 87, 89, 187, 0, 89, 89]
abbrev dktJ8_vectorizedHashCode_5 : List UInt8 := dkwJ8_vectorizedHashCode_5 ++ dktJ8_vectorizedHashCode_6
def dkwJ8_vectorizedHashCode_4 : List UInt8 := [29, 42, 192, 0, 60, 27, 28, 184, 0, 75, 167, 0, 57, 29, 42, 192, 0, 77, 27, 28, 184, 0, 79]
abbrev dktJ8_vectorizedHashCode_4 : List UInt8 := dkwJ8_vectorizedHashCode_4 ++ dktJ8_vectorizedHashCode_5
def dkwJ8_vectorizedHashCode_3 : List UInt8 := [192, 0, 60, 27, 28, 184, 0, 66, 167, 0, 83, 29, 42, 192, 0, 69, 27, 28, 184, 0, 71, 167, 0, 70]
abbrev dktJ8_vectorizedHashCode_3 : List UInt8 := dkwJ8_vectorizedHashCode_3 ++ dktJ8_vectorizedHashCode_4
def dkwJ8_vectorizedHashCode_2 : List UInt8 := [29, 42, 192, 0, 60, 27, 28, 184, 0, 62, 167, 0, 103, 42, 193, 0, 60, 153, 0, 16, 29, 42]
abbrev dktJ8_vectorizedHashCode_2 : List UInt8 := dkwJ8_vectorizedHashCode_2 ++ dktJ8_vectorizedHashCode_3
def dkwJ8_vectorizedHashCode_1 : List UInt8 := [170, 0, 0, 0, 0, 127, 0, 0, 0, 4, 0, 0, 0, 10, 0, 0, 0, 42, 0, 0, 0, 55, 0, 0, 0, 127, 0, 0, 0, 127, 0, 0, 0, 88, 0, 0, 0, 101, 0, 0, 0, 114]
abbrev dktJ8_vectorizedHashCode_1 : List UInt8 := dkwJ8_vectorizedHashCode_1 ++ dktJ8_vectorizedHashCode_2
def dkwJ8_vectorizedHashCode_0 : List UInt8 := [21, 4]
abbrev dktJ8_vectorizedHashCode_0 : List UInt8 := dkwJ8_vectorizedHashCode_0 ++ dktJ8_vectorizedHashCode_1
theorem dksJ8_vectorizedHashCode_0 : cJ8_vectorizedHashCode.data.toList.drop 0 = dktJ8_vectorizedHashCode_0 := by decide +kernel
theorem dksJ8_vectorizedHashCode_1 : cJ8_vectorizedHashCode.data.toList.drop 2 = dktJ8_vectorizedHashCode_1 := dk_seg dksJ8_vectorizedHashCode_0 2 rfl rfl
theorem dksJ8_vectorizedHashCode_2 : cJ8_vectorizedHashCode.data.toList.drop 44 = dktJ8_vectorizedHashCode_2 := dk_seg dksJ8_vectorizedHashCode_1 42 rfl rfl
theorem dksJ8_vectorizedHashCode_3 : cJ8_vectorizedHashCode.data.toList.drop 66 = dktJ8_vectorizedHashCode_3 := dk_seg dksJ8_vectorizedHashCode_2 22 rfl rfl
theorem dksJ8_vectorizedHashCode_4 : cJ8_vectorizedHashCode.data.toList.drop 90 = dktJ8_vectorizedHashCode_4 := dk_seg dksJ8_vectorizedHashCode_3 24 rfl rfl
theorem dksJ8_vectorizedHashCode_5 : cJ8_vectorizedHashCode.data.toList.drop 113 = dktJ8_vectorizedHashCode_5 := dk_seg dksJ8_vectorizedHashCode_4 23 rfl rfl
theorem dksJ8_vectorizedHashCode_6 : cJ8_vectorizedHashCode.data.toList.drop 137 = dktJ8_vectorizedHashCode_6 := dk_seg dksJ8_vectorizedHashCode_5 24 rfl rfl
theorem dJ8_vectorizedHashCode_0 : decode cJ8_vectorizedHashCode 0 = .ok (.iload 4, 2) := dk_21 4 (dk_at dksJ8_vectorizedHashCode_0 0 rfl rfl)
theorem dJ8_vectorizedHashCode_2 : decode cJ8_vectorizedHashCode 2 = .ok (.tableswitch 127 4 10 #[42, 55, 127, 127, 88, 101, 114], 42) := by decide +kernel
theorem dJ8_vectorizedHashCode_44 : decode cJ8_vectorizedHashCode 44 = .ok (.iload_n 3, 1) := dk_29 (dk_at dksJ8_vectorizedHashCode_2 0 rfl rfl)
theorem dJ8_vectorizedHashCode_45 : decode cJ8_vectorizedHashCode 45 = .ok (.aload_n 0, 1) := dk_42 (dk_at dksJ8_vectorizedHashCode_2 1 rfl rfl)
theorem dJ8_vectorizedHashCode_46 : decode cJ8_vectorizedHashCode 46 = .ok (.checkcast 60, 3) := dk_192 0 60 (dk_at dksJ8_vectorizedHashCode_2 2 rfl rfl)
theorem dJ8_vectorizedHashCode_49 : decode cJ8_vectorizedHashCode 49 = .ok (.iload_n 1, 1) := dk_27 (dk_at dksJ8_vectorizedHashCode_2 5 rfl rfl)
theorem dJ8_vectorizedHashCode_50 : decode cJ8_vectorizedHashCode 50 = .ok (.iload_n 2, 1) := dk_28 (dk_at dksJ8_vectorizedHashCode_2 6 rfl rfl)
theorem dJ8_vectorizedHashCode_51 : decode cJ8_vectorizedHashCode 51 = .ok (.invokestatic 62, 3) := dk_184 0 62 (dk_at dksJ8_vectorizedHashCode_2 7 rfl rfl)
theorem dJ8_vectorizedHashCode_54 : decode cJ8_vectorizedHashCode 54 = .ok (.goto 103, 3) := dk_167 0 103 (dk_at dksJ8_vectorizedHashCode_2 10 rfl rfl)
theorem dJ8_vectorizedHashCode_57 : decode cJ8_vectorizedHashCode 57 = .ok (.aload_n 0, 1) := dk_42 (dk_at dksJ8_vectorizedHashCode_2 13 rfl rfl)
theorem dJ8_vectorizedHashCode_58 : decode cJ8_vectorizedHashCode 58 = .ok (.instanceof 60, 3) := dk_193 0 60 (dk_at dksJ8_vectorizedHashCode_2 14 rfl rfl)
theorem dJ8_vectorizedHashCode_61 : decode cJ8_vectorizedHashCode 61 = .ok (.ifCond .eq 16, 3) := dk_153 0 16 (dk_at dksJ8_vectorizedHashCode_2 17 rfl rfl)
theorem dJ8_vectorizedHashCode_64 : decode cJ8_vectorizedHashCode 64 = .ok (.iload_n 3, 1) := dk_29 (dk_at dksJ8_vectorizedHashCode_2 20 rfl rfl)
theorem dJ8_vectorizedHashCode_65 : decode cJ8_vectorizedHashCode 65 = .ok (.aload_n 0, 1) := dk_42 (dk_at dksJ8_vectorizedHashCode_2 21 rfl rfl)
theorem dJ8_vectorizedHashCode_66 : decode cJ8_vectorizedHashCode 66 = .ok (.checkcast 60, 3) := dk_192 0 60 (dk_at dksJ8_vectorizedHashCode_3 0 rfl rfl)
theorem dJ8_vectorizedHashCode_69 : decode cJ8_vectorizedHashCode 69 = .ok (.iload_n 1, 1) := dk_27 (dk_at dksJ8_vectorizedHashCode_3 3 rfl rfl)
theorem dJ8_vectorizedHashCode_70 : decode cJ8_vectorizedHashCode 70 = .ok (.iload_n 2, 1) := dk_28 (dk_at dksJ8_vectorizedHashCode_3 4 rfl rfl)
theorem dJ8_vectorizedHashCode_71 : decode cJ8_vectorizedHashCode 71 = .ok (.invokestatic 66, 3) := dk_184 0 66 (dk_at dksJ8_vectorizedHashCode_3 5 rfl rfl)
theorem dJ8_vectorizedHashCode_74 : decode cJ8_vectorizedHashCode 74 = .ok (.goto 83, 3) := dk_167 0 83 (dk_at dksJ8_vectorizedHashCode_3 8 rfl rfl)
theorem dJ8_vectorizedHashCode_77 : decode cJ8_vectorizedHashCode 77 = .ok (.iload_n 3, 1) := dk_29 (dk_at dksJ8_vectorizedHashCode_3 11 rfl rfl)
theorem dJ8_vectorizedHashCode_78 : decode cJ8_vectorizedHashCode 78 = .ok (.aload_n 0, 1) := dk_42 (dk_at dksJ8_vectorizedHashCode_3 12 rfl rfl)
theorem dJ8_vectorizedHashCode_79 : decode cJ8_vectorizedHashCode 79 = .ok (.checkcast 69, 3) := dk_192 0 69 (dk_at dksJ8_vectorizedHashCode_3 13 rfl rfl)
theorem dJ8_vectorizedHashCode_82 : decode cJ8_vectorizedHashCode 82 = .ok (.iload_n 1, 1) := dk_27 (dk_at dksJ8_vectorizedHashCode_3 16 rfl rfl)
theorem dJ8_vectorizedHashCode_83 : decode cJ8_vectorizedHashCode 83 = .ok (.iload_n 2, 1) := dk_28 (dk_at dksJ8_vectorizedHashCode_3 17 rfl rfl)
theorem dJ8_vectorizedHashCode_84 : decode cJ8_vectorizedHashCode 84 = .ok (.invokestatic 71, 3) := dk_184 0 71 (dk_at dksJ8_vectorizedHashCode_3 18 rfl rfl)
theorem dJ8_vectorizedHashCode_87 : decode cJ8_vectorizedHashCode 87 = .ok (.goto 70, 3) := dk_167 0 70 (dk_at dksJ8_vectorizedHashCode_3 21 rfl rfl)
theorem dJ8_vectorizedHashCode_90 : decode cJ8_vectorizedHashCode 90 = .ok (.iload_n 3, 1) := dk_29 (dk_at dksJ8_vectorizedHashCode_4 0 rfl rfl)
theorem dJ8_vectorizedHashCode_91 : decode cJ8_vectorizedHashCode 91 = .ok (.aload_n 0, 1) := dk_42 (dk_at dksJ8_vectorizedHashCode_4 1 rfl rfl)
theorem dJ8_vectorizedHashCode_92 : decode cJ8_vectorizedHashCode 92 = .ok (.checkcast 60, 3) := dk_192 0 60 (dk_at dksJ8_vectorizedHashCode_4 2 rfl rfl)
theorem dJ8_vectorizedHashCode_95 : decode cJ8_vectorizedHashCode 95 = .ok (.iload_n 1, 1) := dk_27 (dk_at dksJ8_vectorizedHashCode_4 5 rfl rfl)
theorem dJ8_vectorizedHashCode_96 : decode cJ8_vectorizedHashCode 96 = .ok (.iload_n 2, 1) := dk_28 (dk_at dksJ8_vectorizedHashCode_4 6 rfl rfl)
theorem dJ8_vectorizedHashCode_97 : decode cJ8_vectorizedHashCode 97 = .ok (.invokestatic 75, 3) := dk_184 0 75 (dk_at dksJ8_vectorizedHashCode_4 7 rfl rfl)
theorem dJ8_vectorizedHashCode_100 : decode cJ8_vectorizedHashCode 100 = .ok (.goto 57, 3) := dk_167 0 57 (dk_at dksJ8_vectorizedHashCode_4 10 rfl rfl)
theorem dJ8_vectorizedHashCode_103 : decode cJ8_vectorizedHashCode 103 = .ok (.iload_n 3, 1) := dk_29 (dk_at dksJ8_vectorizedHashCode_4 13 rfl rfl)
theorem dJ8_vectorizedHashCode_104 : decode cJ8_vectorizedHashCode 104 = .ok (.aload_n 0, 1) := dk_42 (dk_at dksJ8_vectorizedHashCode_4 14 rfl rfl)
theorem dJ8_vectorizedHashCode_105 : decode cJ8_vectorizedHashCode 105 = .ok (.checkcast 77, 3) := dk_192 0 77 (dk_at dksJ8_vectorizedHashCode_4 15 rfl rfl)
theorem dJ8_vectorizedHashCode_108 : decode cJ8_vectorizedHashCode 108 = .ok (.iload_n 1, 1) := dk_27 (dk_at dksJ8_vectorizedHashCode_4 18 rfl rfl)
theorem dJ8_vectorizedHashCode_109 : decode cJ8_vectorizedHashCode 109 = .ok (.iload_n 2, 1) := dk_28 (dk_at dksJ8_vectorizedHashCode_4 19 rfl rfl)
theorem dJ8_vectorizedHashCode_110 : decode cJ8_vectorizedHashCode 110 = .ok (.invokestatic 79, 3) := dk_184 0 79 (dk_at dksJ8_vectorizedHashCode_4 20 rfl rfl)
theorem dJ8_vectorizedHashCode_113 : decode cJ8_vectorizedHashCode 113 = .ok (.goto 44, 3) := dk_167 0 44 (dk_at dksJ8_vectorizedHashCode_5 0 rfl rfl)
theorem dJ8_vectorizedHashCode_116 : decode cJ8_vectorizedHashCode 116 = .ok (.iload_n 3, 1) := dk_29 (dk_at dksJ8_vectorizedHashCode_5 3 rfl rfl)
theorem dJ8_vectorizedHashCode_117 : decode cJ8_vectorizedHashCode 117 = .ok (.aload_n 0, 1) := dk_42 (dk_at dksJ8_vectorizedHashCode_5 4 rfl rfl)
theorem dJ8_vectorizedHashCode_118 : decode cJ8_vectorizedHashCode 118 = .ok (.checkcast 82, 3) := dk_192 0 82 (dk_at dksJ8_vectorizedHashCode_5 5 rfl rfl)
theorem dJ8_vectorizedHashCode_121 : decode cJ8_vectorizedHashCode 121 = .ok (.iload_n 1, 1) := dk_27 (dk_at dksJ8_vectorizedHashCode_5 8 rfl rfl)
theorem dJ8_vectorizedHashCode_122 : decode cJ8_vectorizedHashCode 122 = .ok (.iload_n 2, 1) := dk_28 (dk_at dksJ8_vectorizedHashCode_5 9 rfl rfl)
theorem dJ8_vectorizedHashCode_123 : decode cJ8_vectorizedHashCode 123 = .ok (.invokestatic 84, 3) := dk_184 0 84 (dk_at dksJ8_vectorizedHashCode_5 10 rfl rfl)
theorem dJ8_vectorizedHashCode_126 : decode cJ8_vectorizedHashCode 126 = .ok (.goto 31, 3) := dk_167 0 31 (dk_at dksJ8_vectorizedHashCode_5 13 rfl rfl)
theorem dJ8_vectorizedHashCode_129 : decode cJ8_vectorizedHashCode 129 = .ok (.new 87, 3) := dk_187 0 87 (dk_at dksJ8_vectorizedHashCode_5 16 rfl rfl)
theorem dJ8_vectorizedHashCode_132 : decode cJ8_vectorizedHashCode 132 = .ok (.dup, 1) := dk_89 (dk_at dksJ8_vectorizedHashCode_5 19 rfl rfl)
theorem dJ8_vectorizedHashCode_133 : decode cJ8_vectorizedHashCode 133 = .ok (.new 89, 3) := dk_187 0 89 (dk_at dksJ8_vectorizedHashCode_5 20 rfl rfl)
theorem dJ8_vectorizedHashCode_136 : decode cJ8_vectorizedHashCode 136 = .ok (.dup, 1) := dk_89 (dk_at dksJ8_vectorizedHashCode_5 23 rfl rfl)
theorem dJ8_vectorizedHashCode_137 : decode cJ8_vectorizedHashCode 137 = .ok (.invokespecial 91, 3) := dk_183 0 91 (dk_at dksJ8_vectorizedHashCode_6 0 rfl rfl)
theorem dJ8_vectorizedHashCode_140 : decode cJ8_vectorizedHashCode 140 = .ok (.ldc 92, 2) := dk_18 92 (dk_at dksJ8_vectorizedHashCode_6 3 rfl rfl)
theorem dJ8_vectorizedHashCode_142 : decode cJ8_vectorizedHashCode 142 = .ok (.invokevirtual 94, 3) := dk_182 0 94 (dk_at dksJ8_vectorizedHashCode_6 5 rfl rfl)
theorem dJ8_vectorizedHashCode_145 : decode cJ8_vectorizedHashCode 145 = .ok (.iload 4, 2) := dk_21 4 (dk_at dksJ8_vectorizedHashCode_6 8 rfl rfl)
theorem dJ8_vectorizedHashCode_147 : decode cJ8_vectorizedHashCode 147 = .ok (.invokevirtual 98, 3) := dk_182 0 98 (dk_at dksJ8_vectorizedHashCode_6 10 rfl rfl)
theorem dJ8_vectorizedHashCode_150 : decode cJ8_vectorizedHashCode 150 = .ok (.invokevirtual 101, 3) := dk_182 0 101 (dk_at dksJ8_vectorizedHashCode_6 13 rfl rfl)
theorem dJ8_vectorizedHashCode_153 : decode cJ8_vectorizedHashCode 153 = .ok (.invokespecial 105, 3) := dk_183 0 105 (dk_at dksJ8_vectorizedHashCode_6 16 rfl rfl)
theorem dJ8_vectorizedHashCode_156 : decode cJ8_vectorizedHashCode 156 = .ok (.athrow, 1) := dk_191 (dk_at dksJ8_vectorizedHashCode_6 19 rfl rfl)
theorem dJ8_vectorizedHashCode_157 : decode cJ8_vectorizedHashCode 157 = .ok (.ireturn, 1) := dk_172 (dk_at dksJ8_vectorizedHashCode_6 20 rfl rfl)
abbrev cJ8_signedHashCode : ByteArray := prog_59_method_5_code
def yJ8_signedHashCode : MethodName := ⟨RJ8, "signedHashCode", "(I[BII)I"⟩
def dkwJ8_signedHashCode_1 : List UInt8 := [17, 0, 255, 126, 96, 59, 132, 5, 1, 167, 255, 232, 26, 172]
abbrev dktJ8_signedHashCode_1 : List UInt8 := dkwJ8_signedHashCode_1 ++ []
def dkwJ8_signedHashCode_0 : List UInt8 := [28, 29, 96, 54, 4, 28, 54, 5, 21, 5, 21, 4, 162, 0, 23, 16, 31, 26, 104, 43, 21, 5, 51]
abbrev dktJ8_signedHashCode_0 : List UInt8 := dkwJ8_signedHashCode_0 ++ dktJ8_signedHashCode_1
theorem dksJ8_signedHashCode_0 : cJ8_signedHashCode.data.toList.drop 0 = dktJ8_signedHashCode_0 := by decide +kernel
theorem dksJ8_signedHashCode_1 : cJ8_signedHashCode.data.toList.drop 23 = dktJ8_signedHashCode_1 := dk_seg dksJ8_signedHashCode_0 23 rfl rfl
theorem dJ8_signedHashCode_0 : decode cJ8_signedHashCode 0 = .ok (.iload_n 2, 1) := dk_28 (dk_at dksJ8_signedHashCode_0 0 rfl rfl)
theorem dJ8_signedHashCode_1 : decode cJ8_signedHashCode 1 = .ok (.iload_n 3, 1) := dk_29 (dk_at dksJ8_signedHashCode_0 1 rfl rfl)
theorem dJ8_signedHashCode_2 : decode cJ8_signedHashCode 2 = .ok (.iadd, 1) := dk_96 (dk_at dksJ8_signedHashCode_0 2 rfl rfl)
theorem dJ8_signedHashCode_3 : decode cJ8_signedHashCode 3 = .ok (.istore 4, 2) := dk_54 4 (dk_at dksJ8_signedHashCode_0 3 rfl rfl)
theorem dJ8_signedHashCode_5 : decode cJ8_signedHashCode 5 = .ok (.iload_n 2, 1) := dk_28 (dk_at dksJ8_signedHashCode_0 5 rfl rfl)
theorem dJ8_signedHashCode_6 : decode cJ8_signedHashCode 6 = .ok (.istore 5, 2) := dk_54 5 (dk_at dksJ8_signedHashCode_0 6 rfl rfl)
theorem dJ8_signedHashCode_8 : decode cJ8_signedHashCode 8 = .ok (.iload 5, 2) := dk_21 5 (dk_at dksJ8_signedHashCode_0 8 rfl rfl)
theorem dJ8_signedHashCode_10 : decode cJ8_signedHashCode 10 = .ok (.iload 4, 2) := dk_21 4 (dk_at dksJ8_signedHashCode_0 10 rfl rfl)
theorem dJ8_signedHashCode_12 : decode cJ8_signedHashCode 12 = .ok (.if_icmp .ge 23, 3) := dk_162 0 23 (dk_at dksJ8_signedHashCode_0 12 rfl rfl)
theorem dJ8_signedHashCode_15 : decode cJ8_signedHashCode 15 = .ok (.bipush 31, 2) := dk_16 31 (dk_at dksJ8_signedHashCode_0 15 rfl rfl)
theorem dJ8_signedHashCode_17 : decode cJ8_signedHashCode 17 = .ok (.iload_n 0, 1) := dk_26 (dk_at dksJ8_signedHashCode_0 17 rfl rfl)
theorem dJ8_signedHashCode_18 : decode cJ8_signedHashCode 18 = .ok (.imul, 1) := dk_104 (dk_at dksJ8_signedHashCode_0 18 rfl rfl)
theorem dJ8_signedHashCode_19 : decode cJ8_signedHashCode 19 = .ok (.aload_n 1, 1) := dk_43 (dk_at dksJ8_signedHashCode_0 19 rfl rfl)
theorem dJ8_signedHashCode_20 : decode cJ8_signedHashCode 20 = .ok (.iload 5, 2) := dk_21 5 (dk_at dksJ8_signedHashCode_0 20 rfl rfl)
theorem dJ8_signedHashCode_22 : decode cJ8_signedHashCode 22 = .ok (.baload, 1) := dk_51 (dk_at dksJ8_signedHashCode_0 22 rfl rfl)
theorem dJ8_signedHashCode_23 : decode cJ8_signedHashCode 23 = .ok (.sipush 255, 3) := dk_17 0 255 (dk_at dksJ8_signedHashCode_1 0 rfl rfl)
theorem dJ8_signedHashCode_26 : decode cJ8_signedHashCode 26 = .ok (.iand, 1) := dk_126 (dk_at dksJ8_signedHashCode_1 3 rfl rfl)
theorem dJ8_signedHashCode_27 : decode cJ8_signedHashCode 27 = .ok (.iadd, 1) := dk_96 (dk_at dksJ8_signedHashCode_1 4 rfl rfl)
theorem dJ8_signedHashCode_28 : decode cJ8_signedHashCode 28 = .ok (.istore_n 0, 1) := dk_59 (dk_at dksJ8_signedHashCode_1 5 rfl rfl)
theorem dJ8_signedHashCode_29 : decode cJ8_signedHashCode 29 = .ok (.iinc 5 1, 3) := dk_132 5 1 (dk_at dksJ8_signedHashCode_1 6 rfl rfl)
theorem dJ8_signedHashCode_32 : decode cJ8_signedHashCode 32 = .ok (.goto (-24), 3) := dk_167 255 232 (dk_at dksJ8_signedHashCode_1 9 rfl rfl)
theorem dJ8_signedHashCode_35 : decode cJ8_signedHashCode 35 = .ok (.iload_n 0, 1) := dk_26 (dk_at dksJ8_signedHashCode_1 12 rfl rfl)
theorem dJ8_signedHashCode_36 : decode cJ8_signedHashCode 36 = .ok (.ireturn, 1) := dk_172 (dk_at dksJ8_signedHashCode_1 13 rfl rfl)
/-! java/lang/AbstractStringBuilder -/
set_option maxRecDepth 100000
def RJ4 : String := "java/lang/AbstractStringBuilder"
abbrev cJ4_init : ByteArray := prog_22_method_2_code
def yJ4_init : MethodName := ⟨RJ4, "<init>", "(I)V"⟩
def dkwJ4_init_1 : List UInt8 := [167, 0, 16, 42, 27, 184, 0, 26, 181, 0, 15, 42, 4, 181, 0, 22, 177]
abbrev dktJ4_init_1 : List UInt8 := dkwJ4_init_1 ++ []
def dkwJ4_init_0 : List UInt8 := [42, 183, 0, 3, 178, 0, 18, 153, 0, 18, 42, 27, 188, 8, 181, 0, 15, 42, 3, 181, 0, 22]
abbrev dktJ4_init_0 : List UInt8 := dkwJ4_init_0 ++ dktJ4_init_1
theorem dksJ4_init_0 : cJ4_init.data.toList.drop 0 = dktJ4_init_0 := by decide +kernel
theorem dksJ4_init_1 : cJ4_init.data.toList.drop 22 = dktJ4_init_1 := dk_seg dksJ4_init_0 22 rfl rfl
theorem dJ4_init_0 : decode cJ4_init 0 = .ok (.aload_n 0, 1) := dk_42 (dk_at dksJ4_init_0 0 rfl rfl)
theorem dJ4_init_1 : decode cJ4_init 1 = .ok (.invokespecial 3, 3) := dk_183 0 3 (dk_at dksJ4_init_0 1 rfl rfl)
theorem dJ4_init_4 : decode cJ4_init 4 = .ok (.getstatic 18, 3) := dk_178 0 18 (dk_at dksJ4_init_0 4 rfl rfl)
theorem dJ4_init_7 : decode cJ4_init 7 = .ok (.ifCond .eq 18, 3) := dk_153 0 18 (dk_at dksJ4_init_0 7 rfl rfl)
theorem dJ4_init_10 : decode cJ4_init 10 = .ok (.aload_n 0, 1) := dk_42 (dk_at dksJ4_init_0 10 rfl rfl)
theorem dJ4_init_11 : decode cJ4_init 11 = .ok (.iload_n 1, 1) := dk_27 (dk_at dksJ4_init_0 11 rfl rfl)
theorem dJ4_init_12 : decode cJ4_init 12 = .ok (.newarray .byte, 2) := dk_188_8 (dk_at dksJ4_init_0 12 rfl rfl)
theorem dJ4_init_14 : decode cJ4_init 14 = .ok (.putfield 15, 3) := dk_181 0 15 (dk_at dksJ4_init_0 14 rfl rfl)
theorem dJ4_init_17 : decode cJ4_init 17 = .ok (.aload_n 0, 1) := dk_42 (dk_at dksJ4_init_0 17 rfl rfl)
theorem dJ4_init_18 : decode cJ4_init 18 = .ok (.iconst 0, 1) := dk_3 (dk_at dksJ4_init_0 18 rfl rfl)
theorem dJ4_init_19 : decode cJ4_init 19 = .ok (.putfield 22, 3) := dk_181 0 22 (dk_at dksJ4_init_0 19 rfl rfl)
theorem dJ4_init_22 : decode cJ4_init 22 = .ok (.goto 16, 3) := dk_167 0 16 (dk_at dksJ4_init_1 0 rfl rfl)
theorem dJ4_init_25 : decode cJ4_init 25 = .ok (.aload_n 0, 1) := dk_42 (dk_at dksJ4_init_1 3 rfl rfl)
theorem dJ4_init_26 : decode cJ4_init 26 = .ok (.iload_n 1, 1) := dk_27 (dk_at dksJ4_init_1 4 rfl rfl)
theorem dJ4_init_27 : decode cJ4_init 27 = .ok (.invokestatic 26, 3) := dk_184 0 26 (dk_at dksJ4_init_1 5 rfl rfl)
theorem dJ4_init_30 : decode cJ4_init 30 = .ok (.putfield 15, 3) := dk_181 0 15 (dk_at dksJ4_init_1 8 rfl rfl)
theorem dJ4_init_33 : decode cJ4_init 33 = .ok (.aload_n 0, 1) := dk_42 (dk_at dksJ4_init_1 11 rfl rfl)
theorem dJ4_init_34 : decode cJ4_init 34 = .ok (.iconst 1, 1) := dk_4 (dk_at dksJ4_init_1 12 rfl rfl)
theorem dJ4_init_35 : decode cJ4_init 35 = .ok (.putfield 22, 3) := dk_181 0 22 (dk_at dksJ4_init_1 13 rfl rfl)
theorem dJ4_init_38 : decode cJ4_init 38 = .ok (.return_, 1) := dk_177 (dk_at dksJ4_init_1 16 rfl rfl)
abbrev cJ4_append : ByteArray := prog_22_method_31_code
def yJ4_append : MethodName := ⟨RJ4, "append", "(C)Ljava/lang/AbstractStringBuilder;"⟩
def dkwJ4_append_3 : List UInt8 := [181, 0, 79, 27, 184, 0, 197, 42, 176]
abbrev dktJ4_append_3 : List UInt8 := dkwJ4_append_3 ++ []
def dkwJ4_append_2 : List UInt8 := [182, 0, 83, 153, 0, 7, 42, 182, 0, 195, 42, 180, 0, 15, 42, 89, 180, 0, 79, 90, 4, 96]
abbrev dktJ4_append_2 : List UInt8 := dkwJ4_append_2 ++ dktJ4_append_3
def dkwJ4_append_1 : List UInt8 := [42, 180, 0, 15, 42, 89, 180, 0, 79, 90, 4, 96, 181, 0, 79, 27, 145, 84, 167, 0, 33, 42]
abbrev dktJ4_append_1 : List UInt8 := dkwJ4_append_1 ++ dktJ4_append_2
def dkwJ4_append_0 : List UInt8 := [42, 42, 180, 0, 79, 4, 96, 182, 0, 100, 42, 182, 0, 83, 153, 0, 31, 27, 184, 0, 191, 153, 0, 24]
abbrev dktJ4_append_0 : List UInt8 := dkwJ4_append_0 ++ dktJ4_append_1
theorem dksJ4_append_0 : cJ4_append.data.toList.drop 0 = dktJ4_append_0 := by decide +kernel
theorem dksJ4_append_1 : cJ4_append.data.toList.drop 24 = dktJ4_append_1 := dk_seg dksJ4_append_0 24 rfl rfl
theorem dksJ4_append_2 : cJ4_append.data.toList.drop 46 = dktJ4_append_2 := dk_seg dksJ4_append_1 22 rfl rfl
theorem dksJ4_append_3 : cJ4_append.data.toList.drop 68 = dktJ4_append_3 := dk_seg dksJ4_append_2 22 rfl rfl
theorem dJ4_append_0 : decode cJ4_append 0 = .ok (.aload_n 0, 1) := dk_42 (dk_at dksJ4_append_0 0 rfl rfl)
theorem dJ4_append_1 : decode cJ4_append 1 = .ok (.aload_n 0, 1) := dk_42 (dk_at dksJ4_append_0 1 rfl rfl)
theorem dJ4_append_2 : decode cJ4_append 2 = .ok (.getfield 79, 3) := dk_180 0 79 (dk_at dksJ4_append_0 2 rfl rfl)
theorem dJ4_append_5 : decode cJ4_append 5 = .ok (.iconst 1, 1) := dk_4 (dk_at dksJ4_append_0 5 rfl rfl)
theorem dJ4_append_6 : decode cJ4_append 6 = .ok (.iadd, 1) := dk_96 (dk_at dksJ4_append_0 6 rfl rfl)
theorem dJ4_append_7 : decode cJ4_append 7 = .ok (.invokevirtual 100, 3) := dk_182 0 100 (dk_at dksJ4_append_0 7 rfl rfl)
theorem dJ4_append_10 : decode cJ4_append 10 = .ok (.aload_n 0, 1) := dk_42 (dk_at dksJ4_append_0 10 rfl rfl)
theorem dJ4_append_11 : decode cJ4_append 11 = .ok (.invokevirtual 83, 3) := dk_182 0 83 (dk_at dksJ4_append_0 11 rfl rfl)
theorem dJ4_append_14 : decode cJ4_append 14 = .ok (.ifCond .eq 31, 3) := dk_153 0 31 (dk_at dksJ4_append_0 14 rfl rfl)
theorem dJ4_append_17 : decode cJ4_append 17 = .ok (.iload_n 1, 1) := dk_27 (dk_at dksJ4_append_0 17 rfl rfl)
theorem dJ4_append_18 : decode cJ4_append 18 = .ok (.invokestatic 191, 3) := dk_184 0 191 (dk_at dksJ4_append_0 18 rfl rfl)
theorem dJ4_append_21 : decode cJ4_append 21 = .ok (.ifCond .eq 24, 3) := dk_153 0 24 (dk_at dksJ4_append_0 21 rfl rfl)
theorem dJ4_append_24 : decode cJ4_append 24 = .ok (.aload_n 0, 1) := dk_42 (dk_at dksJ4_append_1 0 rfl rfl)
theorem dJ4_append_25 : decode cJ4_append 25 = .ok (.getfield 15, 3) := dk_180 0 15 (dk_at dksJ4_append_1 1 rfl rfl)
theorem dJ4_append_28 : decode cJ4_append 28 = .ok (.aload_n 0, 1) := dk_42 (dk_at dksJ4_append_1 4 rfl rfl)
theorem dJ4_append_29 : decode cJ4_append 29 = .ok (.dup, 1) := dk_89 (dk_at dksJ4_append_1 5 rfl rfl)
theorem dJ4_append_30 : decode cJ4_append 30 = .ok (.getfield 79, 3) := dk_180 0 79 (dk_at dksJ4_append_1 6 rfl rfl)
theorem dJ4_append_33 : decode cJ4_append 33 = .ok (.dup_x1, 1) := dk_90 (dk_at dksJ4_append_1 9 rfl rfl)
theorem dJ4_append_34 : decode cJ4_append 34 = .ok (.iconst 1, 1) := dk_4 (dk_at dksJ4_append_1 10 rfl rfl)
theorem dJ4_append_35 : decode cJ4_append 35 = .ok (.iadd, 1) := dk_96 (dk_at dksJ4_append_1 11 rfl rfl)
theorem dJ4_append_36 : decode cJ4_append 36 = .ok (.putfield 79, 3) := dk_181 0 79 (dk_at dksJ4_append_1 12 rfl rfl)
theorem dJ4_append_39 : decode cJ4_append 39 = .ok (.iload_n 1, 1) := dk_27 (dk_at dksJ4_append_1 15 rfl rfl)
theorem dJ4_append_40 : decode cJ4_append 40 = .ok (.i2b, 1) := dk_145 (dk_at dksJ4_append_1 16 rfl rfl)
theorem dJ4_append_41 : decode cJ4_append 41 = .ok (.bastore, 1) := dk_84 (dk_at dksJ4_append_1 17 rfl rfl)
theorem dJ4_append_42 : decode cJ4_append 42 = .ok (.goto 33, 3) := dk_167 0 33 (dk_at dksJ4_append_1 18 rfl rfl)
theorem dJ4_append_45 : decode cJ4_append 45 = .ok (.aload_n 0, 1) := dk_42 (dk_at dksJ4_append_1 21 rfl rfl)
theorem dJ4_append_46 : decode cJ4_append 46 = .ok (.invokevirtual 83, 3) := dk_182 0 83 (dk_at dksJ4_append_2 0 rfl rfl)
theorem dJ4_append_49 : decode cJ4_append 49 = .ok (.ifCond .eq 7, 3) := dk_153 0 7 (dk_at dksJ4_append_2 3 rfl rfl)
theorem dJ4_append_52 : decode cJ4_append 52 = .ok (.aload_n 0, 1) := dk_42 (dk_at dksJ4_append_2 6 rfl rfl)
theorem dJ4_append_53 : decode cJ4_append 53 = .ok (.invokevirtual 195, 3) := dk_182 0 195 (dk_at dksJ4_append_2 7 rfl rfl)
theorem dJ4_append_56 : decode cJ4_append 56 = .ok (.aload_n 0, 1) := dk_42 (dk_at dksJ4_append_2 10 rfl rfl)
theorem dJ4_append_57 : decode cJ4_append 57 = .ok (.getfield 15, 3) := dk_180 0 15 (dk_at dksJ4_append_2 11 rfl rfl)
theorem dJ4_append_60 : decode cJ4_append 60 = .ok (.aload_n 0, 1) := dk_42 (dk_at dksJ4_append_2 14 rfl rfl)
theorem dJ4_append_61 : decode cJ4_append 61 = .ok (.dup, 1) := dk_89 (dk_at dksJ4_append_2 15 rfl rfl)
theorem dJ4_append_62 : decode cJ4_append 62 = .ok (.getfield 79, 3) := dk_180 0 79 (dk_at dksJ4_append_2 16 rfl rfl)
theorem dJ4_append_65 : decode cJ4_append 65 = .ok (.dup_x1, 1) := dk_90 (dk_at dksJ4_append_2 19 rfl rfl)
theorem dJ4_append_66 : decode cJ4_append 66 = .ok (.iconst 1, 1) := dk_4 (dk_at dksJ4_append_2 20 rfl rfl)
theorem dJ4_append_67 : decode cJ4_append 67 = .ok (.iadd, 1) := dk_96 (dk_at dksJ4_append_2 21 rfl rfl)
theorem dJ4_append_68 : decode cJ4_append 68 = .ok (.putfield 79, 3) := dk_181 0 79 (dk_at dksJ4_append_3 0 rfl rfl)
theorem dJ4_append_71 : decode cJ4_append 71 = .ok (.iload_n 1, 1) := dk_27 (dk_at dksJ4_append_3 3 rfl rfl)
theorem dJ4_append_72 : decode cJ4_append 72 = .ok (.invokestatic 197, 3) := dk_184 0 197 (dk_at dksJ4_append_3 4 rfl rfl)
theorem dJ4_append_75 : decode cJ4_append 75 = .ok (.aload_n 0, 1) := dk_42 (dk_at dksJ4_append_3 7 rfl rfl)
theorem dJ4_append_76 : decode cJ4_append 76 = .ok (.areturn, 1) := dk_176 (dk_at dksJ4_append_3 8 rfl rfl)
abbrev cJ4_ensureCapacityInternal : ByteArray := prog_22_method_9_code
def yJ4_ensureCapacityInternal : MethodName := ⟨RJ4, "ensureCapacityInternal", "(I)V"⟩
def dkwJ4_ensureCapacityInternal_1 : List UInt8 := [182, 0, 104, 42, 180, 0, 22, 120, 184, 0, 108, 181, 0, 15, 177]
abbrev dktJ4_ensureCapacityInternal_1 : List UInt8 := dkwJ4_ensureCapacityInternal_1 ++ []
def dkwJ4_ensureCapacityInternal_0 : List UInt8 := [42, 180, 0, 15, 190, 42, 180, 0, 22, 122, 61, 27, 28, 100, 158, 0, 24, 42, 42, 180, 0, 15, 42, 27]
abbrev dktJ4_ensureCapacityInternal_0 : List UInt8 := dkwJ4_ensureCapacityInternal_0 ++ dktJ4_ensureCapacityInternal_1
theorem dksJ4_ensureCapacityInternal_0 : cJ4_ensureCapacityInternal.data.toList.drop 0 = dktJ4_ensureCapacityInternal_0 := by decide +kernel
theorem dksJ4_ensureCapacityInternal_1 : cJ4_ensureCapacityInternal.data.toList.drop 24 = dktJ4_ensureCapacityInternal_1 := dk_seg dksJ4_ensureCapacityInternal_0 24 rfl rfl
theorem dJ4_ensureCapacityInternal_0 : decode cJ4_ensureCapacityInternal 0 = .ok (.aload_n 0, 1) := dk_42 (dk_at dksJ4_ensureCapacityInternal_0 0 rfl rfl)
theorem dJ4_ensureCapacityInternal_1 : decode cJ4_ensureCapacityInternal 1 = .ok (.getfield 15, 3) := dk_180 0 15 (dk_at dksJ4_ensureCapacityInternal_0 1 rfl rfl)
theorem dJ4_ensureCapacityInternal_4 : decode cJ4_ensureCapacityInternal 4 = .ok (.arraylength, 1) := dk_190 (dk_at dksJ4_ensureCapacityInternal_0 4 rfl rfl)
theorem dJ4_ensureCapacityInternal_5 : decode cJ4_ensureCapacityInternal 5 = .ok (.aload_n 0, 1) := dk_42 (dk_at dksJ4_ensureCapacityInternal_0 5 rfl rfl)
theorem dJ4_ensureCapacityInternal_6 : decode cJ4_ensureCapacityInternal 6 = .ok (.getfield 22, 3) := dk_180 0 22 (dk_at dksJ4_ensureCapacityInternal_0 6 rfl rfl)
theorem dJ4_ensureCapacityInternal_9 : decode cJ4_ensureCapacityInternal 9 = .ok (.ishr, 1) := dk_122 (dk_at dksJ4_ensureCapacityInternal_0 9 rfl rfl)
theorem dJ4_ensureCapacityInternal_10 : decode cJ4_ensureCapacityInternal 10 = .ok (.istore_n 2, 1) := dk_61 (dk_at dksJ4_ensureCapacityInternal_0 10 rfl rfl)
theorem dJ4_ensureCapacityInternal_11 : decode cJ4_ensureCapacityInternal 11 = .ok (.iload_n 1, 1) := dk_27 (dk_at dksJ4_ensureCapacityInternal_0 11 rfl rfl)
theorem dJ4_ensureCapacityInternal_12 : decode cJ4_ensureCapacityInternal 12 = .ok (.iload_n 2, 1) := dk_28 (dk_at dksJ4_ensureCapacityInternal_0 12 rfl rfl)
theorem dJ4_ensureCapacityInternal_13 : decode cJ4_ensureCapacityInternal 13 = .ok (.isub, 1) := dk_100 (dk_at dksJ4_ensureCapacityInternal_0 13 rfl rfl)
theorem dJ4_ensureCapacityInternal_14 : decode cJ4_ensureCapacityInternal 14 = .ok (.ifCond .le 24, 3) := dk_158 0 24 (dk_at dksJ4_ensureCapacityInternal_0 14 rfl rfl)
theorem dJ4_ensureCapacityInternal_17 : decode cJ4_ensureCapacityInternal 17 = .ok (.aload_n 0, 1) := dk_42 (dk_at dksJ4_ensureCapacityInternal_0 17 rfl rfl)
theorem dJ4_ensureCapacityInternal_18 : decode cJ4_ensureCapacityInternal 18 = .ok (.aload_n 0, 1) := dk_42 (dk_at dksJ4_ensureCapacityInternal_0 18 rfl rfl)
theorem dJ4_ensureCapacityInternal_19 : decode cJ4_ensureCapacityInternal 19 = .ok (.getfield 15, 3) := dk_180 0 15 (dk_at dksJ4_ensureCapacityInternal_0 19 rfl rfl)
theorem dJ4_ensureCapacityInternal_22 : decode cJ4_ensureCapacityInternal 22 = .ok (.aload_n 0, 1) := dk_42 (dk_at dksJ4_ensureCapacityInternal_0 22 rfl rfl)
theorem dJ4_ensureCapacityInternal_23 : decode cJ4_ensureCapacityInternal 23 = .ok (.iload_n 1, 1) := dk_27 (dk_at dksJ4_ensureCapacityInternal_0 23 rfl rfl)
theorem dJ4_ensureCapacityInternal_24 : decode cJ4_ensureCapacityInternal 24 = .ok (.invokevirtual 104, 3) := dk_182 0 104 (dk_at dksJ4_ensureCapacityInternal_1 0 rfl rfl)
theorem dJ4_ensureCapacityInternal_27 : decode cJ4_ensureCapacityInternal 27 = .ok (.aload_n 0, 1) := dk_42 (dk_at dksJ4_ensureCapacityInternal_1 3 rfl rfl)
theorem dJ4_ensureCapacityInternal_28 : decode cJ4_ensureCapacityInternal 28 = .ok (.getfield 22, 3) := dk_180 0 22 (dk_at dksJ4_ensureCapacityInternal_1 4 rfl rfl)
theorem dJ4_ensureCapacityInternal_31 : decode cJ4_ensureCapacityInternal 31 = .ok (.ishl, 1) := dk_120 (dk_at dksJ4_ensureCapacityInternal_1 7 rfl rfl)
theorem dJ4_ensureCapacityInternal_32 : decode cJ4_ensureCapacityInternal 32 = .ok (.invokestatic 108, 3) := dk_184 0 108 (dk_at dksJ4_ensureCapacityInternal_1 8 rfl rfl)
theorem dJ4_ensureCapacityInternal_35 : decode cJ4_ensureCapacityInternal 35 = .ok (.putfield 15, 3) := dk_181 0 15 (dk_at dksJ4_ensureCapacityInternal_1 11 rfl rfl)
theorem dJ4_ensureCapacityInternal_38 : decode cJ4_ensureCapacityInternal 38 = .ok (.return_, 1) := dk_177 (dk_at dksJ4_ensureCapacityInternal_1 14 rfl rfl)
abbrev cJ4_newCapacity : ByteArray := prog_22_method_10_code
def yJ4_newCapacity : MethodName := ⟨RJ4, "newCapacity", "(I)I"⟩
def dkwJ4_newCapacity_2 : List UInt8 := [183, 0, 124, 191, 21, 5, 42, 180, 0, 22, 122, 172]
abbrev dktJ4_newCapacity_2 : List UInt8 := dkwJ4_newCapacity_2 ++ []
def dkwJ4_newCapacity_1 : List UInt8 := [180, 0, 22, 120, 96, 184, 0, 114, 54, 5, 21, 5, 18, 39, 160, 0, 13, 187, 0, 120, 89, 18, 122]
abbrev dktJ4_newCapacity_1 : List UInt8 := dkwJ4_newCapacity_1 ++ dktJ4_newCapacity_2
def dkwJ4_newCapacity_0 : List UInt8 := [42, 180, 0, 15, 190, 61, 27, 42, 180, 0, 22, 120, 62, 29, 28, 100, 54, 4, 28, 21, 4, 28, 5, 42]
abbrev dktJ4_newCapacity_0 : List UInt8 := dkwJ4_newCapacity_0 ++ dktJ4_newCapacity_1
theorem dksJ4_newCapacity_0 : cJ4_newCapacity.data.toList.drop 0 = dktJ4_newCapacity_0 := by decide +kernel
theorem dksJ4_newCapacity_1 : cJ4_newCapacity.data.toList.drop 24 = dktJ4_newCapacity_1 := dk_seg dksJ4_newCapacity_0 24 rfl rfl
theorem dksJ4_newCapacity_2 : cJ4_newCapacity.data.toList.drop 47 = dktJ4_newCapacity_2 := dk_seg dksJ4_newCapacity_1 23 rfl rfl
theorem dJ4_newCapacity_0 : decode cJ4_newCapacity 0 = .ok (.aload_n 0, 1) := dk_42 (dk_at dksJ4_newCapacity_0 0 rfl rfl)
theorem dJ4_newCapacity_1 : decode cJ4_newCapacity 1 = .ok (.getfield 15, 3) := dk_180 0 15 (dk_at dksJ4_newCapacity_0 1 rfl rfl)
theorem dJ4_newCapacity_4 : decode cJ4_newCapacity 4 = .ok (.arraylength, 1) := dk_190 (dk_at dksJ4_newCapacity_0 4 rfl rfl)
theorem dJ4_newCapacity_5 : decode cJ4_newCapacity 5 = .ok (.istore_n 2, 1) := dk_61 (dk_at dksJ4_newCapacity_0 5 rfl rfl)
theorem dJ4_newCapacity_6 : decode cJ4_newCapacity 6 = .ok (.iload_n 1, 1) := dk_27 (dk_at dksJ4_newCapacity_0 6 rfl rfl)
theorem dJ4_newCapacity_7 : decode cJ4_newCapacity 7 = .ok (.aload_n 0, 1) := dk_42 (dk_at dksJ4_newCapacity_0 7 rfl rfl)
theorem dJ4_newCapacity_8 : decode cJ4_newCapacity 8 = .ok (.getfield 22, 3) := dk_180 0 22 (dk_at dksJ4_newCapacity_0 8 rfl rfl)
theorem dJ4_newCapacity_11 : decode cJ4_newCapacity 11 = .ok (.ishl, 1) := dk_120 (dk_at dksJ4_newCapacity_0 11 rfl rfl)
theorem dJ4_newCapacity_12 : decode cJ4_newCapacity 12 = .ok (.istore_n 3, 1) := dk_62 (dk_at dksJ4_newCapacity_0 12 rfl rfl)
theorem dJ4_newCapacity_13 : decode cJ4_newCapacity 13 = .ok (.iload_n 3, 1) := dk_29 (dk_at dksJ4_newCapacity_0 13 rfl rfl)
theorem dJ4_newCapacity_14 : decode cJ4_newCapacity 14 = .ok (.iload_n 2, 1) := dk_28 (dk_at dksJ4_newCapacity_0 14 rfl rfl)
theorem dJ4_newCapacity_15 : decode cJ4_newCapacity 15 = .ok (.isub, 1) := dk_100 (dk_at dksJ4_newCapacity_0 15 rfl rfl)
theorem dJ4_newCapacity_16 : decode cJ4_newCapacity 16 = .ok (.istore 4, 2) := dk_54 4 (dk_at dksJ4_newCapacity_0 16 rfl rfl)
theorem dJ4_newCapacity_18 : decode cJ4_newCapacity 18 = .ok (.iload_n 2, 1) := dk_28 (dk_at dksJ4_newCapacity_0 18 rfl rfl)
theorem dJ4_newCapacity_19 : decode cJ4_newCapacity 19 = .ok (.iload 4, 2) := dk_21 4 (dk_at dksJ4_newCapacity_0 19 rfl rfl)
theorem dJ4_newCapacity_21 : decode cJ4_newCapacity 21 = .ok (.iload_n 2, 1) := dk_28 (dk_at dksJ4_newCapacity_0 21 rfl rfl)
theorem dJ4_newCapacity_22 : decode cJ4_newCapacity 22 = .ok (.iconst 2, 1) := dk_5 (dk_at dksJ4_newCapacity_0 22 rfl rfl)
theorem dJ4_newCapacity_23 : decode cJ4_newCapacity 23 = .ok (.aload_n 0, 1) := dk_42 (dk_at dksJ4_newCapacity_0 23 rfl rfl)
theorem dJ4_newCapacity_24 : decode cJ4_newCapacity 24 = .ok (.getfield 22, 3) := dk_180 0 22 (dk_at dksJ4_newCapacity_1 0 rfl rfl)
theorem dJ4_newCapacity_27 : decode cJ4_newCapacity 27 = .ok (.ishl, 1) := dk_120 (dk_at dksJ4_newCapacity_1 3 rfl rfl)
theorem dJ4_newCapacity_28 : decode cJ4_newCapacity 28 = .ok (.iadd, 1) := dk_96 (dk_at dksJ4_newCapacity_1 4 rfl rfl)
theorem dJ4_newCapacity_29 : decode cJ4_newCapacity 29 = .ok (.invokestatic 114, 3) := dk_184 0 114 (dk_at dksJ4_newCapacity_1 5 rfl rfl)
theorem dJ4_newCapacity_32 : decode cJ4_newCapacity 32 = .ok (.istore 5, 2) := dk_54 5 (dk_at dksJ4_newCapacity_1 8 rfl rfl)
theorem dJ4_newCapacity_34 : decode cJ4_newCapacity 34 = .ok (.iload 5, 2) := dk_21 5 (dk_at dksJ4_newCapacity_1 10 rfl rfl)
theorem dJ4_newCapacity_36 : decode cJ4_newCapacity 36 = .ok (.ldc 39, 2) := dk_18 39 (dk_at dksJ4_newCapacity_1 12 rfl rfl)
theorem dJ4_newCapacity_38 : decode cJ4_newCapacity 38 = .ok (.if_icmp .ne 13, 3) := dk_160 0 13 (dk_at dksJ4_newCapacity_1 14 rfl rfl)
theorem dJ4_newCapacity_41 : decode cJ4_newCapacity 41 = .ok (.new 120, 3) := dk_187 0 120 (dk_at dksJ4_newCapacity_1 17 rfl rfl)
theorem dJ4_newCapacity_44 : decode cJ4_newCapacity 44 = .ok (.dup, 1) := dk_89 (dk_at dksJ4_newCapacity_1 20 rfl rfl)
theorem dJ4_newCapacity_45 : decode cJ4_newCapacity 45 = .ok (.ldc 122, 2) := dk_18 122 (dk_at dksJ4_newCapacity_1 21 rfl rfl)
theorem dJ4_newCapacity_47 : decode cJ4_newCapacity 47 = .ok (.invokespecial 124, 3) := dk_183 0 124 (dk_at dksJ4_newCapacity_2 0 rfl rfl)
theorem dJ4_newCapacity_50 : decode cJ4_newCapacity 50 = .ok (.athrow, 1) := dk_191 (dk_at dksJ4_newCapacity_2 3 rfl rfl)
theorem dJ4_newCapacity_51 : decode cJ4_newCapacity 51 = .ok (.iload 5, 2) := dk_21 5 (dk_at dksJ4_newCapacity_2 4 rfl rfl)
theorem dJ4_newCapacity_53 : decode cJ4_newCapacity 53 = .ok (.aload_n 0, 1) := dk_42 (dk_at dksJ4_newCapacity_2 6 rfl rfl)
theorem dJ4_newCapacity_54 : decode cJ4_newCapacity 54 = .ok (.getfield 22, 3) := dk_180 0 22 (dk_at dksJ4_newCapacity_2 7 rfl rfl)
theorem dJ4_newCapacity_57 : decode cJ4_newCapacity 57 = .ok (.ishr, 1) := dk_122 (dk_at dksJ4_newCapacity_2 10 rfl rfl)
theorem dJ4_newCapacity_58 : decode cJ4_newCapacity 58 = .ok (.ireturn, 1) := dk_172 (dk_at dksJ4_newCapacity_2 11 rfl rfl)
abbrev cJ4_isLatin1 : ByteArray := prog_22_method_68_code
def yJ4_isLatin1 : MethodName := ⟨RJ4, "isLatin1", "()Z"⟩
def dkwJ4_isLatin1_0 : List UInt8 := [178, 0, 18, 153, 0, 14, 42, 180, 0, 22, 154, 0, 7, 4, 167, 0, 4, 3, 172]
abbrev dktJ4_isLatin1_0 : List UInt8 := dkwJ4_isLatin1_0 ++ []
theorem dksJ4_isLatin1_0 : cJ4_isLatin1.data.toList.drop 0 = dktJ4_isLatin1_0 := by decide +kernel
theorem dJ4_isLatin1_0 : decode cJ4_isLatin1 0 = .ok (.getstatic 18, 3) := dk_178 0 18 (dk_at dksJ4_isLatin1_0 0 rfl rfl)
theorem dJ4_isLatin1_3 : decode cJ4_isLatin1 3 = .ok (.ifCond .eq 14, 3) := dk_153 0 14 (dk_at dksJ4_isLatin1_0 3 rfl rfl)
theorem dJ4_isLatin1_6 : decode cJ4_isLatin1 6 = .ok (.aload_n 0, 1) := dk_42 (dk_at dksJ4_isLatin1_0 6 rfl rfl)
theorem dJ4_isLatin1_7 : decode cJ4_isLatin1 7 = .ok (.getfield 22, 3) := dk_180 0 22 (dk_at dksJ4_isLatin1_0 7 rfl rfl)
theorem dJ4_isLatin1_10 : decode cJ4_isLatin1 10 = .ok (.ifCond .ne 7, 3) := dk_154 0 7 (dk_at dksJ4_isLatin1_0 10 rfl rfl)
theorem dJ4_isLatin1_13 : decode cJ4_isLatin1 13 = .ok (.iconst 1, 1) := dk_4 (dk_at dksJ4_isLatin1_0 13 rfl rfl)
theorem dJ4_isLatin1_14 : decode cJ4_isLatin1 14 = .ok (.goto 4, 3) := dk_167 0 4 (dk_at dksJ4_isLatin1_0 14 rfl rfl)
theorem dJ4_isLatin1_17 : decode cJ4_isLatin1 17 = .ok (.iconst 0, 1) := dk_3 (dk_at dksJ4_isLatin1_0 17 rfl rfl)
theorem dJ4_isLatin1_18 : decode cJ4_isLatin1 18 = .ok (.ireturn, 1) := dk_172 (dk_at dksJ4_isLatin1_0 18 rfl rfl)
abbrev cJ4_inflate : ByteArray := prog_22_method_11_code
def yJ4_inflate : MethodName := ⟨RJ4, "inflate", "()V"⟩
def dkwJ4_inflate_1 : List UInt8 := [42, 180, 0, 79, 184, 0, 125, 42, 43, 181, 0, 15, 42, 4, 181, 0, 22, 177]
abbrev dktJ4_inflate_1 : List UInt8 := dkwJ4_inflate_1 ++ []
def dkwJ4_inflate_0 : List UInt8 := [42, 182, 0, 83, 154, 0, 4, 177, 42, 180, 0, 15, 190, 184, 0, 26, 76, 42, 180, 0, 15, 3, 43, 3]
abbrev dktJ4_inflate_0 : List UInt8 := dkwJ4_inflate_0 ++ dktJ4_inflate_1
theorem dksJ4_inflate_0 : cJ4_inflate.data.toList.drop 0 = dktJ4_inflate_0 := by decide +kernel
theorem dksJ4_inflate_1 : cJ4_inflate.data.toList.drop 24 = dktJ4_inflate_1 := dk_seg dksJ4_inflate_0 24 rfl rfl
theorem dJ4_inflate_0 : decode cJ4_inflate 0 = .ok (.aload_n 0, 1) := dk_42 (dk_at dksJ4_inflate_0 0 rfl rfl)
theorem dJ4_inflate_1 : decode cJ4_inflate 1 = .ok (.invokevirtual 83, 3) := dk_182 0 83 (dk_at dksJ4_inflate_0 1 rfl rfl)
theorem dJ4_inflate_4 : decode cJ4_inflate 4 = .ok (.ifCond .ne 4, 3) := dk_154 0 4 (dk_at dksJ4_inflate_0 4 rfl rfl)
theorem dJ4_inflate_7 : decode cJ4_inflate 7 = .ok (.return_, 1) := dk_177 (dk_at dksJ4_inflate_0 7 rfl rfl)
theorem dJ4_inflate_8 : decode cJ4_inflate 8 = .ok (.aload_n 0, 1) := dk_42 (dk_at dksJ4_inflate_0 8 rfl rfl)
theorem dJ4_inflate_9 : decode cJ4_inflate 9 = .ok (.getfield 15, 3) := dk_180 0 15 (dk_at dksJ4_inflate_0 9 rfl rfl)
theorem dJ4_inflate_12 : decode cJ4_inflate 12 = .ok (.arraylength, 1) := dk_190 (dk_at dksJ4_inflate_0 12 rfl rfl)
theorem dJ4_inflate_13 : decode cJ4_inflate 13 = .ok (.invokestatic 26, 3) := dk_184 0 26 (dk_at dksJ4_inflate_0 13 rfl rfl)
theorem dJ4_inflate_16 : decode cJ4_inflate 16 = .ok (.astore_n 1, 1) := dk_76 (dk_at dksJ4_inflate_0 16 rfl rfl)
theorem dJ4_inflate_17 : decode cJ4_inflate 17 = .ok (.aload_n 0, 1) := dk_42 (dk_at dksJ4_inflate_0 17 rfl rfl)
theorem dJ4_inflate_18 : decode cJ4_inflate 18 = .ok (.getfield 15, 3) := dk_180 0 15 (dk_at dksJ4_inflate_0 18 rfl rfl)
theorem dJ4_inflate_21 : decode cJ4_inflate 21 = .ok (.iconst 0, 1) := dk_3 (dk_at dksJ4_inflate_0 21 rfl rfl)
theorem dJ4_inflate_22 : decode cJ4_inflate 22 = .ok (.aload_n 1, 1) := dk_43 (dk_at dksJ4_inflate_0 22 rfl rfl)
theorem dJ4_inflate_23 : decode cJ4_inflate 23 = .ok (.iconst 0, 1) := dk_3 (dk_at dksJ4_inflate_0 23 rfl rfl)
theorem dJ4_inflate_24 : decode cJ4_inflate 24 = .ok (.aload_n 0, 1) := dk_42 (dk_at dksJ4_inflate_1 0 rfl rfl)
theorem dJ4_inflate_25 : decode cJ4_inflate 25 = .ok (.getfield 79, 3) := dk_180 0 79 (dk_at dksJ4_inflate_1 1 rfl rfl)
theorem dJ4_inflate_28 : decode cJ4_inflate 28 = .ok (.invokestatic 125, 3) := dk_184 0 125 (dk_at dksJ4_inflate_1 4 rfl rfl)
theorem dJ4_inflate_31 : decode cJ4_inflate 31 = .ok (.aload_n 0, 1) := dk_42 (dk_at dksJ4_inflate_1 7 rfl rfl)
theorem dJ4_inflate_32 : decode cJ4_inflate 32 = .ok (.aload_n 1, 1) := dk_43 (dk_at dksJ4_inflate_1 8 rfl rfl)
theorem dJ4_inflate_33 : decode cJ4_inflate 33 = .ok (.putfield 15, 3) := dk_181 0 15 (dk_at dksJ4_inflate_1 9 rfl rfl)
theorem dJ4_inflate_36 : decode cJ4_inflate 36 = .ok (.aload_n 0, 1) := dk_42 (dk_at dksJ4_inflate_1 12 rfl rfl)
theorem dJ4_inflate_37 : decode cJ4_inflate 37 = .ok (.iconst 1, 1) := dk_4 (dk_at dksJ4_inflate_1 13 rfl rfl)
theorem dJ4_inflate_38 : decode cJ4_inflate 38 = .ok (.putfield 22, 3) := dk_181 0 22 (dk_at dksJ4_inflate_1 14 rfl rfl)
theorem dJ4_inflate_41 : decode cJ4_inflate 41 = .ok (.return_, 1) := dk_177 (dk_at dksJ4_inflate_1 17 rfl rfl)
abbrev cJ4_getValue : ByteArray := prog_22_method_64_code
def yJ4_getValue : MethodName := ⟨RJ4, "getValue", "()[B"⟩
theorem dJ4_getValue_0 : decode cJ4_getValue 0 = .ok (.aload_n 0, 1) := by decide +kernel
theorem dJ4_getValue_1 : decode cJ4_getValue 1 = .ok (.getfield 15, 3) := by decide +kernel
theorem dJ4_getValue_4 : decode cJ4_getValue 4 = .ok (.areturn, 1) := by decide +kernel
abbrev cJ4_length : ByteArray := prog_22_method_6_code
def yJ4_length : MethodName := ⟨RJ4, "length", "()I"⟩
theorem dJ4_length_0 : decode cJ4_length 0 = .ok (.aload_n 0, 1) := by decide +kernel
theorem dJ4_length_1 : decode cJ4_length 1 = .ok (.getfield 79, 3) := by decide +kernel
theorem dJ4_length_4 : decode cJ4_length 4 = .ok (.ireturn, 1) := by decide +kernel
abbrev cJ4_append_2 : ByteArray := prog_22_method_32_code
def yJ4_append_2 : MethodName := ⟨RJ4, "append", "(I)Ljava/lang/AbstractStringBuilder;"⟩
def dkwJ4_append_2_2 : List UInt8 := [42, 29, 181, 0, 79, 42, 176]
abbrev dktJ4_append_2_2 : List UInt8 := dkwJ4_append_2_2 ++ []
def dkwJ4_append_2_1 : List UInt8 := [27, 29, 42, 180, 0, 15, 184, 0, 248, 87, 167, 0, 14, 27, 28, 29, 42, 180, 0, 15, 184, 0, 251, 87]
abbrev dktJ4_append_2_1 : List UInt8 := dkwJ4_append_2_1 ++ dktJ4_append_2_2
def dkwJ4_append_2_0 : List UInt8 := [42, 180, 0, 79, 61, 28, 27, 184, 0, 245, 96, 62, 42, 29, 182, 0, 100, 42, 182, 0, 83, 153, 0, 16]
abbrev dktJ4_append_2_0 : List UInt8 := dkwJ4_append_2_0 ++ dktJ4_append_2_1
theorem dksJ4_append_2_0 : cJ4_append_2.data.toList.drop 0 = dktJ4_append_2_0 := by decide +kernel
theorem dksJ4_append_2_1 : cJ4_append_2.data.toList.drop 24 = dktJ4_append_2_1 := dk_seg dksJ4_append_2_0 24 rfl rfl
theorem dksJ4_append_2_2 : cJ4_append_2.data.toList.drop 48 = dktJ4_append_2_2 := dk_seg dksJ4_append_2_1 24 rfl rfl
theorem dJ4_append_2_0 : decode cJ4_append_2 0 = .ok (.aload_n 0, 1) := dk_42 (dk_at dksJ4_append_2_0 0 rfl rfl)
theorem dJ4_append_2_1 : decode cJ4_append_2 1 = .ok (.getfield 79, 3) := dk_180 0 79 (dk_at dksJ4_append_2_0 1 rfl rfl)
theorem dJ4_append_2_4 : decode cJ4_append_2 4 = .ok (.istore_n 2, 1) := dk_61 (dk_at dksJ4_append_2_0 4 rfl rfl)
theorem dJ4_append_2_5 : decode cJ4_append_2 5 = .ok (.iload_n 2, 1) := dk_28 (dk_at dksJ4_append_2_0 5 rfl rfl)
theorem dJ4_append_2_6 : decode cJ4_append_2 6 = .ok (.iload_n 1, 1) := dk_27 (dk_at dksJ4_append_2_0 6 rfl rfl)
theorem dJ4_append_2_7 : decode cJ4_append_2 7 = .ok (.invokestatic 245, 3) := dk_184 0 245 (dk_at dksJ4_append_2_0 7 rfl rfl)
theorem dJ4_append_2_10 : decode cJ4_append_2 10 = .ok (.iadd, 1) := dk_96 (dk_at dksJ4_append_2_0 10 rfl rfl)
theorem dJ4_append_2_11 : decode cJ4_append_2 11 = .ok (.istore_n 3, 1) := dk_62 (dk_at dksJ4_append_2_0 11 rfl rfl)
theorem dJ4_append_2_12 : decode cJ4_append_2 12 = .ok (.aload_n 0, 1) := dk_42 (dk_at dksJ4_append_2_0 12 rfl rfl)
theorem dJ4_append_2_13 : decode cJ4_append_2 13 = .ok (.iload_n 3, 1) := dk_29 (dk_at dksJ4_append_2_0 13 rfl rfl)
theorem dJ4_append_2_14 : decode cJ4_append_2 14 = .ok (.invokevirtual 100, 3) := dk_182 0 100 (dk_at dksJ4_append_2_0 14 rfl rfl)
theorem dJ4_append_2_17 : decode cJ4_append_2 17 = .ok (.aload_n 0, 1) := dk_42 (dk_at dksJ4_append_2_0 17 rfl rfl)
theorem dJ4_append_2_18 : decode cJ4_append_2 18 = .ok (.invokevirtual 83, 3) := dk_182 0 83 (dk_at dksJ4_append_2_0 18 rfl rfl)
theorem dJ4_append_2_21 : decode cJ4_append_2 21 = .ok (.ifCond .eq 16, 3) := dk_153 0 16 (dk_at dksJ4_append_2_0 21 rfl rfl)
theorem dJ4_append_2_24 : decode cJ4_append_2 24 = .ok (.iload_n 1, 1) := dk_27 (dk_at dksJ4_append_2_1 0 rfl rfl)
theorem dJ4_append_2_25 : decode cJ4_append_2 25 = .ok (.iload_n 3, 1) := dk_29 (dk_at dksJ4_append_2_1 1 rfl rfl)
theorem dJ4_append_2_26 : decode cJ4_append_2 26 = .ok (.aload_n 0, 1) := dk_42 (dk_at dksJ4_append_2_1 2 rfl rfl)
theorem dJ4_append_2_27 : decode cJ4_append_2 27 = .ok (.getfield 15, 3) := dk_180 0 15 (dk_at dksJ4_append_2_1 3 rfl rfl)
theorem dJ4_append_2_30 : decode cJ4_append_2 30 = .ok (.invokestatic 248, 3) := dk_184 0 248 (dk_at dksJ4_append_2_1 6 rfl rfl)
theorem dJ4_append_2_33 : decode cJ4_append_2 33 = .ok (.pop, 1) := dk_87 (dk_at dksJ4_append_2_1 9 rfl rfl)
theorem dJ4_append_2_34 : decode cJ4_append_2 34 = .ok (.goto 14, 3) := dk_167 0 14 (dk_at dksJ4_append_2_1 10 rfl rfl)
theorem dJ4_append_2_37 : decode cJ4_append_2 37 = .ok (.iload_n 1, 1) := dk_27 (dk_at dksJ4_append_2_1 13 rfl rfl)
theorem dJ4_append_2_38 : decode cJ4_append_2 38 = .ok (.iload_n 2, 1) := dk_28 (dk_at dksJ4_append_2_1 14 rfl rfl)
theorem dJ4_append_2_39 : decode cJ4_append_2 39 = .ok (.iload_n 3, 1) := dk_29 (dk_at dksJ4_append_2_1 15 rfl rfl)
theorem dJ4_append_2_40 : decode cJ4_append_2 40 = .ok (.aload_n 0, 1) := dk_42 (dk_at dksJ4_append_2_1 16 rfl rfl)
theorem dJ4_append_2_41 : decode cJ4_append_2 41 = .ok (.getfield 15, 3) := dk_180 0 15 (dk_at dksJ4_append_2_1 17 rfl rfl)
theorem dJ4_append_2_44 : decode cJ4_append_2 44 = .ok (.invokestatic 251, 3) := dk_184 0 251 (dk_at dksJ4_append_2_1 20 rfl rfl)
theorem dJ4_append_2_47 : decode cJ4_append_2 47 = .ok (.pop, 1) := dk_87 (dk_at dksJ4_append_2_1 23 rfl rfl)
theorem dJ4_append_2_48 : decode cJ4_append_2 48 = .ok (.aload_n 0, 1) := dk_42 (dk_at dksJ4_append_2_2 0 rfl rfl)
theorem dJ4_append_2_49 : decode cJ4_append_2 49 = .ok (.iload_n 3, 1) := dk_29 (dk_at dksJ4_append_2_2 1 rfl rfl)
theorem dJ4_append_2_50 : decode cJ4_append_2 50 = .ok (.putfield 79, 3) := dk_181 0 79 (dk_at dksJ4_append_2_2 2 rfl rfl)
theorem dJ4_append_2_53 : decode cJ4_append_2 53 = .ok (.aload_n 0, 1) := dk_42 (dk_at dksJ4_append_2_2 5 rfl rfl)
theorem dJ4_append_2_54 : decode cJ4_append_2 54 = .ok (.areturn, 1) := dk_176 (dk_at dksJ4_append_2_2 6 rfl rfl)
abbrev cJ4_append_3 : ByteArray := prog_22_method_22_code
def yJ4_append_3 : MethodName := ⟨RJ4, "append", "(Ljava/lang/String;)Ljava/lang/AbstractStringBuilder;"⟩
def dkwJ4_append_3_1 : List UInt8 := [42, 42, 180, 0, 79, 43, 182, 0, 208, 42, 89, 180, 0, 79, 28, 96, 181, 0, 79, 42, 176]
abbrev dktJ4_append_3_1 : List UInt8 := dkwJ4_append_3_1 ++ []
def dkwJ4_append_3_0 : List UInt8 := [43, 199, 0, 8, 42, 182, 0, 204, 176, 43, 182, 0, 32, 61, 42, 42, 180, 0, 79, 28, 96, 182, 0, 100]
abbrev dktJ4_append_3_0 : List UInt8 := dkwJ4_append_3_0 ++ dktJ4_append_3_1
theorem dksJ4_append_3_0 : cJ4_append_3.data.toList.drop 0 = dktJ4_append_3_0 := by decide +kernel
theorem dksJ4_append_3_1 : cJ4_append_3.data.toList.drop 24 = dktJ4_append_3_1 := dk_seg dksJ4_append_3_0 24 rfl rfl
theorem dJ4_append_3_0 : decode cJ4_append_3 0 = .ok (.aload_n 1, 1) := dk_43 (dk_at dksJ4_append_3_0 0 rfl rfl)
theorem dJ4_append_3_1 : decode cJ4_append_3 1 = .ok (.ifnonnull 8, 3) := dk_199 0 8 (dk_at dksJ4_append_3_0 1 rfl rfl)
theorem dJ4_append_3_4 : decode cJ4_append_3 4 = .ok (.aload_n 0, 1) := dk_42 (dk_at dksJ4_append_3_0 4 rfl rfl)
theorem dJ4_append_3_5 : decode cJ4_append_3 5 = .ok (.invokevirtual 204, 3) := dk_182 0 204 (dk_at dksJ4_append_3_0 5 rfl rfl)
theorem dJ4_append_3_8 : decode cJ4_append_3 8 = .ok (.areturn, 1) := dk_176 (dk_at dksJ4_append_3_0 8 rfl rfl)
theorem dJ4_append_3_9 : decode cJ4_append_3 9 = .ok (.aload_n 1, 1) := dk_43 (dk_at dksJ4_append_3_0 9 rfl rfl)
theorem dJ4_append_3_10 : decode cJ4_append_3 10 = .ok (.invokevirtual 32, 3) := dk_182 0 32 (dk_at dksJ4_append_3_0 10 rfl rfl)
theorem dJ4_append_3_13 : decode cJ4_append_3 13 = .ok (.istore_n 2, 1) := dk_61 (dk_at dksJ4_append_3_0 13 rfl rfl)
theorem dJ4_append_3_14 : decode cJ4_append_3 14 = .ok (.aload_n 0, 1) := dk_42 (dk_at dksJ4_append_3_0 14 rfl rfl)
theorem dJ4_append_3_15 : decode cJ4_append_3 15 = .ok (.aload_n 0, 1) := dk_42 (dk_at dksJ4_append_3_0 15 rfl rfl)
theorem dJ4_append_3_16 : decode cJ4_append_3 16 = .ok (.getfield 79, 3) := dk_180 0 79 (dk_at dksJ4_append_3_0 16 rfl rfl)
theorem dJ4_append_3_19 : decode cJ4_append_3 19 = .ok (.iload_n 2, 1) := dk_28 (dk_at dksJ4_append_3_0 19 rfl rfl)
theorem dJ4_append_3_20 : decode cJ4_append_3 20 = .ok (.iadd, 1) := dk_96 (dk_at dksJ4_append_3_0 20 rfl rfl)
theorem dJ4_append_3_21 : decode cJ4_append_3 21 = .ok (.invokevirtual 100, 3) := dk_182 0 100 (dk_at dksJ4_append_3_0 21 rfl rfl)
theorem dJ4_append_3_24 : decode cJ4_append_3 24 = .ok (.aload_n 0, 1) := dk_42 (dk_at dksJ4_append_3_1 0 rfl rfl)
theorem dJ4_append_3_25 : decode cJ4_append_3 25 = .ok (.aload_n 0, 1) := dk_42 (dk_at dksJ4_append_3_1 1 rfl rfl)
theorem dJ4_append_3_26 : decode cJ4_append_3 26 = .ok (.getfield 79, 3) := dk_180 0 79 (dk_at dksJ4_append_3_1 2 rfl rfl)
theorem dJ4_append_3_29 : decode cJ4_append_3 29 = .ok (.aload_n 1, 1) := dk_43 (dk_at dksJ4_append_3_1 5 rfl rfl)
theorem dJ4_append_3_30 : decode cJ4_append_3 30 = .ok (.invokevirtual 208, 3) := dk_182 0 208 (dk_at dksJ4_append_3_1 6 rfl rfl)
theorem dJ4_append_3_33 : decode cJ4_append_3 33 = .ok (.aload_n 0, 1) := dk_42 (dk_at dksJ4_append_3_1 9 rfl rfl)
theorem dJ4_append_3_34 : decode cJ4_append_3 34 = .ok (.dup, 1) := dk_89 (dk_at dksJ4_append_3_1 10 rfl rfl)
theorem dJ4_append_3_35 : decode cJ4_append_3 35 = .ok (.getfield 79, 3) := dk_180 0 79 (dk_at dksJ4_append_3_1 11 rfl rfl)
theorem dJ4_append_3_38 : decode cJ4_append_3 38 = .ok (.iload_n 2, 1) := dk_28 (dk_at dksJ4_append_3_1 14 rfl rfl)
theorem dJ4_append_3_39 : decode cJ4_append_3 39 = .ok (.iadd, 1) := dk_96 (dk_at dksJ4_append_3_1 15 rfl rfl)
theorem dJ4_append_3_40 : decode cJ4_append_3 40 = .ok (.putfield 79, 3) := dk_181 0 79 (dk_at dksJ4_append_3_1 16 rfl rfl)
theorem dJ4_append_3_43 : decode cJ4_append_3 43 = .ok (.aload_n 0, 1) := dk_42 (dk_at dksJ4_append_3_1 19 rfl rfl)
theorem dJ4_append_3_44 : decode cJ4_append_3 44 = .ok (.areturn, 1) := dk_176 (dk_at dksJ4_append_3_1 20 rfl rfl)
abbrev cJ4_appendNull : ByteArray := prog_22_method_26_code
def yJ4_appendNull : MethodName := ⟨RJ4, "appendNull", "()Ljava/lang/AbstractStringBuilder;"⟩
def dkwJ4_appendNull_3 : List UInt8 := [184, 0, 226, 60, 42, 27, 181, 0, 79, 42, 176]
abbrev dktJ4_appendNull_3 : List UInt8 := dkwJ4_appendNull_3 ++ []
def dkwJ4_appendNull_2 : List UInt8 := [16, 108, 84, 44, 27, 132, 1, 1, 16, 108, 84, 167, 0, 17, 44, 27, 16, 110, 16, 117, 16, 108, 16, 108]
abbrev dktJ4_appendNull_2 : List UInt8 := dkwJ4_appendNull_2 ++ dktJ4_appendNull_3
def dkwJ4_appendNull_1 : List UInt8 := [153, 0, 38, 44, 27, 132, 1, 1, 16, 110, 84, 44, 27, 132, 1, 1, 16, 117, 84, 44, 27, 132, 1, 1]
abbrev dktJ4_appendNull_1 : List UInt8 := dkwJ4_appendNull_1 ++ dktJ4_appendNull_2
def dkwJ4_appendNull_0 : List UInt8 := [42, 42, 180, 0, 79, 7, 96, 182, 0, 100, 42, 180, 0, 79, 60, 42, 180, 0, 15, 77, 42, 182, 0, 83]
abbrev dktJ4_appendNull_0 : List UInt8 := dkwJ4_appendNull_0 ++ dktJ4_appendNull_1
theorem dksJ4_appendNull_0 : cJ4_appendNull.data.toList.drop 0 = dktJ4_appendNull_0 := by decide +kernel
theorem dksJ4_appendNull_1 : cJ4_appendNull.data.toList.drop 24 = dktJ4_appendNull_1 := dk_seg dksJ4_appendNull_0 24 rfl rfl
theorem dksJ4_appendNull_2 : cJ4_appendNull.data.toList.drop 48 = dktJ4_appendNull_2 := dk_seg dksJ4_appendNull_1 24 rfl rfl
theorem dksJ4_appendNull_3 : cJ4_appendNull.data.toList.drop 72 = dktJ4_appendNull_3 := dk_seg dksJ4_appendNull_2 24 rfl rfl
theorem dJ4_appendNull_0 : decode cJ4_appendNull 0 = .ok (.aload_n 0, 1) := dk_42 (dk_at dksJ4_appendNull_0 0 rfl rfl)
theorem dJ4_appendNull_1 : decode cJ4_appendNull 1 = .ok (.aload_n 0, 1) := dk_42 (dk_at dksJ4_appendNull_0 1 rfl rfl)
theorem dJ4_appendNull_2 : decode cJ4_appendNull 2 = .ok (.getfield 79, 3) := dk_180 0 79 (dk_at dksJ4_appendNull_0 2 rfl rfl)
theorem dJ4_appendNull_5 : decode cJ4_appendNull 5 = .ok (.iconst 4, 1) := dk_7 (dk_at dksJ4_appendNull_0 5 rfl rfl)
theorem dJ4_appendNull_6 : decode cJ4_appendNull 6 = .ok (.iadd, 1) := dk_96 (dk_at dksJ4_appendNull_0 6 rfl rfl)
theorem dJ4_appendNull_7 : decode cJ4_appendNull 7 = .ok (.invokevirtual 100, 3) := dk_182 0 100 (dk_at dksJ4_appendNull_0 7 rfl rfl)
theorem dJ4_appendNull_10 : decode cJ4_appendNull 10 = .ok (.aload_n 0, 1) := dk_42 (dk_at dksJ4_appendNull_0 10 rfl rfl)
theorem dJ4_appendNull_11 : decode cJ4_appendNull 11 = .ok (.getfield 79, 3) := dk_180 0 79 (dk_at dksJ4_appendNull_0 11 rfl rfl)
theorem dJ4_appendNull_14 : decode cJ4_appendNull 14 = .ok (.istore_n 1, 1) := dk_60 (dk_at dksJ4_appendNull_0 14 rfl rfl)
theorem dJ4_appendNull_15 : decode cJ4_appendNull 15 = .ok (.aload_n 0, 1) := dk_42 (dk_at dksJ4_appendNull_0 15 rfl rfl)
theorem dJ4_appendNull_16 : decode cJ4_appendNull 16 = .ok (.getfield 15, 3) := dk_180 0 15 (dk_at dksJ4_appendNull_0 16 rfl rfl)
theorem dJ4_appendNull_19 : decode cJ4_appendNull 19 = .ok (.astore_n 2, 1) := dk_77 (dk_at dksJ4_appendNull_0 19 rfl rfl)
theorem dJ4_appendNull_20 : decode cJ4_appendNull 20 = .ok (.aload_n 0, 1) := dk_42 (dk_at dksJ4_appendNull_0 20 rfl rfl)
theorem dJ4_appendNull_21 : decode cJ4_appendNull 21 = .ok (.invokevirtual 83, 3) := dk_182 0 83 (dk_at dksJ4_appendNull_0 21 rfl rfl)
theorem dJ4_appendNull_24 : decode cJ4_appendNull 24 = .ok (.ifCond .eq 38, 3) := dk_153 0 38 (dk_at dksJ4_appendNull_1 0 rfl rfl)
theorem dJ4_appendNull_27 : decode cJ4_appendNull 27 = .ok (.aload_n 2, 1) := dk_44 (dk_at dksJ4_appendNull_1 3 rfl rfl)
theorem dJ4_appendNull_28 : decode cJ4_appendNull 28 = .ok (.iload_n 1, 1) := dk_27 (dk_at dksJ4_appendNull_1 4 rfl rfl)
theorem dJ4_appendNull_29 : decode cJ4_appendNull 29 = .ok (.iinc 1 1, 3) := dk_132 1 1 (dk_at dksJ4_appendNull_1 5 rfl rfl)
theorem dJ4_appendNull_32 : decode cJ4_appendNull 32 = .ok (.bipush 110, 2) := dk_16 110 (dk_at dksJ4_appendNull_1 8 rfl rfl)
theorem dJ4_appendNull_34 : decode cJ4_appendNull 34 = .ok (.bastore, 1) := dk_84 (dk_at dksJ4_appendNull_1 10 rfl rfl)
theorem dJ4_appendNull_35 : decode cJ4_appendNull 35 = .ok (.aload_n 2, 1) := dk_44 (dk_at dksJ4_appendNull_1 11 rfl rfl)
theorem dJ4_appendNull_36 : decode cJ4_appendNull 36 = .ok (.iload_n 1, 1) := dk_27 (dk_at dksJ4_appendNull_1 12 rfl rfl)
theorem dJ4_appendNull_37 : decode cJ4_appendNull 37 = .ok (.iinc 1 1, 3) := dk_132 1 1 (dk_at dksJ4_appendNull_1 13 rfl rfl)
theorem dJ4_appendNull_40 : decode cJ4_appendNull 40 = .ok (.bipush 117, 2) := dk_16 117 (dk_at dksJ4_appendNull_1 16 rfl rfl)
theorem dJ4_appendNull_42 : decode cJ4_appendNull 42 = .ok (.bastore, 1) := dk_84 (dk_at dksJ4_appendNull_1 18 rfl rfl)
theorem dJ4_appendNull_43 : decode cJ4_appendNull 43 = .ok (.aload_n 2, 1) := dk_44 (dk_at dksJ4_appendNull_1 19 rfl rfl)
theorem dJ4_appendNull_44 : decode cJ4_appendNull 44 = .ok (.iload_n 1, 1) := dk_27 (dk_at dksJ4_appendNull_1 20 rfl rfl)
theorem dJ4_appendNull_45 : decode cJ4_appendNull 45 = .ok (.iinc 1 1, 3) := dk_132 1 1 (dk_at dksJ4_appendNull_1 21 rfl rfl)
theorem dJ4_appendNull_48 : decode cJ4_appendNull 48 = .ok (.bipush 108, 2) := dk_16 108 (dk_at dksJ4_appendNull_2 0 rfl rfl)
theorem dJ4_appendNull_50 : decode cJ4_appendNull 50 = .ok (.bastore, 1) := dk_84 (dk_at dksJ4_appendNull_2 2 rfl rfl)
theorem dJ4_appendNull_51 : decode cJ4_appendNull 51 = .ok (.aload_n 2, 1) := dk_44 (dk_at dksJ4_appendNull_2 3 rfl rfl)
theorem dJ4_appendNull_52 : decode cJ4_appendNull 52 = .ok (.iload_n 1, 1) := dk_27 (dk_at dksJ4_appendNull_2 4 rfl rfl)
theorem dJ4_appendNull_53 : decode cJ4_appendNull 53 = .ok (.iinc 1 1, 3) := dk_132 1 1 (dk_at dksJ4_appendNull_2 5 rfl rfl)
theorem dJ4_appendNull_56 : decode cJ4_appendNull 56 = .ok (.bipush 108, 2) := dk_16 108 (dk_at dksJ4_appendNull_2 8 rfl rfl)
theorem dJ4_appendNull_58 : decode cJ4_appendNull 58 = .ok (.bastore, 1) := dk_84 (dk_at dksJ4_appendNull_2 10 rfl rfl)
theorem dJ4_appendNull_59 : decode cJ4_appendNull 59 = .ok (.goto 17, 3) := dk_167 0 17 (dk_at dksJ4_appendNull_2 11 rfl rfl)
theorem dJ4_appendNull_62 : decode cJ4_appendNull 62 = .ok (.aload_n 2, 1) := dk_44 (dk_at dksJ4_appendNull_2 14 rfl rfl)
theorem dJ4_appendNull_63 : decode cJ4_appendNull 63 = .ok (.iload_n 1, 1) := dk_27 (dk_at dksJ4_appendNull_2 15 rfl rfl)
theorem dJ4_appendNull_64 : decode cJ4_appendNull 64 = .ok (.bipush 110, 2) := dk_16 110 (dk_at dksJ4_appendNull_2 16 rfl rfl)
theorem dJ4_appendNull_66 : decode cJ4_appendNull 66 = .ok (.bipush 117, 2) := dk_16 117 (dk_at dksJ4_appendNull_2 18 rfl rfl)
theorem dJ4_appendNull_68 : decode cJ4_appendNull 68 = .ok (.bipush 108, 2) := dk_16 108 (dk_at dksJ4_appendNull_2 20 rfl rfl)
theorem dJ4_appendNull_70 : decode cJ4_appendNull 70 = .ok (.bipush 108, 2) := dk_16 108 (dk_at dksJ4_appendNull_2 22 rfl rfl)
theorem dJ4_appendNull_72 : decode cJ4_appendNull 72 = .ok (.invokestatic 226, 3) := dk_184 0 226 (dk_at dksJ4_appendNull_3 0 rfl rfl)
theorem dJ4_appendNull_75 : decode cJ4_appendNull 75 = .ok (.istore_n 1, 1) := dk_60 (dk_at dksJ4_appendNull_3 3 rfl rfl)
theorem dJ4_appendNull_76 : decode cJ4_appendNull 76 = .ok (.aload_n 0, 1) := dk_42 (dk_at dksJ4_appendNull_3 4 rfl rfl)
theorem dJ4_appendNull_77 : decode cJ4_appendNull 77 = .ok (.iload_n 1, 1) := dk_27 (dk_at dksJ4_appendNull_3 5 rfl rfl)
theorem dJ4_appendNull_78 : decode cJ4_appendNull 78 = .ok (.putfield 79, 3) := dk_181 0 79 (dk_at dksJ4_appendNull_3 6 rfl rfl)
theorem dJ4_appendNull_81 : decode cJ4_appendNull 81 = .ok (.aload_n 0, 1) := dk_42 (dk_at dksJ4_appendNull_3 9 rfl rfl)
theorem dJ4_appendNull_82 : decode cJ4_appendNull 82 = .ok (.areturn, 1) := dk_176 (dk_at dksJ4_appendNull_3 10 rfl rfl)
abbrev cJ4_putStringAt : ByteArray := prog_22_method_73_code
def yJ4_putStringAt : MethodName := ⟨RJ4, "putStringAt", "(ILjava/lang/String;)V"⟩
def dkwJ4_putStringAt_0 : List UInt8 := [42, 44, 182, 1, 141, 44, 42, 180, 0, 15, 27, 42, 180, 0, 22, 182, 1, 143, 177]
abbrev dktJ4_putStringAt_0 : List UInt8 := dkwJ4_putStringAt_0 ++ []
theorem dksJ4_putStringAt_0 : cJ4_putStringAt.data.toList.drop 0 = dktJ4_putStringAt_0 := by decide +kernel
theorem dJ4_putStringAt_0 : decode cJ4_putStringAt 0 = .ok (.aload_n 0, 1) := dk_42 (dk_at dksJ4_putStringAt_0 0 rfl rfl)
theorem dJ4_putStringAt_1 : decode cJ4_putStringAt 1 = .ok (.aload_n 2, 1) := dk_44 (dk_at dksJ4_putStringAt_0 1 rfl rfl)
theorem dJ4_putStringAt_2 : decode cJ4_putStringAt 2 = .ok (.invokevirtual 397, 3) := dk_182 1 141 (dk_at dksJ4_putStringAt_0 2 rfl rfl)
theorem dJ4_putStringAt_5 : decode cJ4_putStringAt 5 = .ok (.aload_n 2, 1) := dk_44 (dk_at dksJ4_putStringAt_0 5 rfl rfl)
theorem dJ4_putStringAt_6 : decode cJ4_putStringAt 6 = .ok (.aload_n 0, 1) := dk_42 (dk_at dksJ4_putStringAt_0 6 rfl rfl)
theorem dJ4_putStringAt_7 : decode cJ4_putStringAt 7 = .ok (.getfield 15, 3) := dk_180 0 15 (dk_at dksJ4_putStringAt_0 7 rfl rfl)
theorem dJ4_putStringAt_10 : decode cJ4_putStringAt 10 = .ok (.iload_n 1, 1) := dk_27 (dk_at dksJ4_putStringAt_0 10 rfl rfl)
theorem dJ4_putStringAt_11 : decode cJ4_putStringAt 11 = .ok (.aload_n 0, 1) := dk_42 (dk_at dksJ4_putStringAt_0 11 rfl rfl)
theorem dJ4_putStringAt_12 : decode cJ4_putStringAt 12 = .ok (.getfield 22, 3) := dk_180 0 22 (dk_at dksJ4_putStringAt_0 12 rfl rfl)
theorem dJ4_putStringAt_15 : decode cJ4_putStringAt 15 = .ok (.invokevirtual 399, 3) := dk_182 1 143 (dk_at dksJ4_putStringAt_0 15 rfl rfl)
theorem dJ4_putStringAt_18 : decode cJ4_putStringAt 18 = .ok (.return_, 1) := dk_177 (dk_at dksJ4_putStringAt_0 18 rfl rfl)
abbrev cJ4_inflateIfNeededFor : ByteArray := prog_22_method_71_code
def yJ4_inflateIfNeededFor : MethodName := ⟨RJ4, "inflateIfNeededFor", "(Ljava/lang/String;)V"⟩
def dkwJ4_inflateIfNeededFor_0 : List UInt8 := [178, 0, 18, 153, 0, 18, 42, 180, 0, 22, 43, 182, 0, 40, 159, 0, 7, 42, 182, 0, 195, 177]
abbrev dktJ4_inflateIfNeededFor_0 : List UInt8 := dkwJ4_inflateIfNeededFor_0 ++ []
theorem dksJ4_inflateIfNeededFor_0 : cJ4_inflateIfNeededFor.data.toList.drop 0 = dktJ4_inflateIfNeededFor_0 := by decide +kernel
theorem dJ4_inflateIfNeededFor_0 : decode cJ4_inflateIfNeededFor 0 = .ok (.getstatic 18, 3) := dk_178 0 18 (dk_at dksJ4_inflateIfNeededFor_0 0 rfl rfl)
theorem dJ4_inflateIfNeededFor_3 : decode cJ4_inflateIfNeededFor 3 = .ok (.ifCond .eq 18, 3) := dk_153 0 18 (dk_at dksJ4_inflateIfNeededFor_0 3 rfl rfl)
theorem dJ4_inflateIfNeededFor_6 : decode cJ4_inflateIfNeededFor 6 = .ok (.aload_n 0, 1) := dk_42 (dk_at dksJ4_inflateIfNeededFor_0 6 rfl rfl)
theorem dJ4_inflateIfNeededFor_7 : decode cJ4_inflateIfNeededFor 7 = .ok (.getfield 22, 3) := dk_180 0 22 (dk_at dksJ4_inflateIfNeededFor_0 7 rfl rfl)
theorem dJ4_inflateIfNeededFor_10 : decode cJ4_inflateIfNeededFor 10 = .ok (.aload_n 1, 1) := dk_43 (dk_at dksJ4_inflateIfNeededFor_0 10 rfl rfl)
theorem dJ4_inflateIfNeededFor_11 : decode cJ4_inflateIfNeededFor 11 = .ok (.invokevirtual 40, 3) := dk_182 0 40 (dk_at dksJ4_inflateIfNeededFor_0 11 rfl rfl)
theorem dJ4_inflateIfNeededFor_14 : decode cJ4_inflateIfNeededFor 14 = .ok (.if_icmp .eq 7, 3) := dk_159 0 7 (dk_at dksJ4_inflateIfNeededFor_0 14 rfl rfl)
theorem dJ4_inflateIfNeededFor_17 : decode cJ4_inflateIfNeededFor 17 = .ok (.aload_n 0, 1) := dk_42 (dk_at dksJ4_inflateIfNeededFor_0 17 rfl rfl)
theorem dJ4_inflateIfNeededFor_18 : decode cJ4_inflateIfNeededFor 18 = .ok (.invokevirtual 195, 3) := dk_182 0 195 (dk_at dksJ4_inflateIfNeededFor_0 18 rfl rfl)
theorem dJ4_inflateIfNeededFor_21 : decode cJ4_inflateIfNeededFor 21 = .ok (.return_, 1) := dk_177 (dk_at dksJ4_inflateIfNeededFor_0 21 rfl rfl)
theorem q145 : (Jvm.Cond.initialized "java/lang/AbstractStringBuilder") ∈ lw_all := lw_g (lw_at lw_m1 13 rfl) rfl
theorem q875 : (Jvm.Cond.instanceMethod ({ cls := "java/lang/AbstractStringBuilder", name := "<init>", desc := "(I)V" } : Jvm.MethodName)) ∈ lw_all := lw_g (lw_at lw_m4 23 rfl) rfl
theorem q876 : (Jvm.Cond.code ({ cls := "java/lang/AbstractStringBuilder", name := "<init>", desc := "(I)V" } : Jvm.MethodName) prog_22_method_2_code (2 : Nat) (Option.none : Option Jvm.ClassFile.FieldType)) ∈ lw_all := lw_g (lw_at lw_m4 24 rfl) rfl
theorem q877 : (Jvm.Cond.methodLink "java/lang/AbstractStringBuilder" (3 : Nat) ({ cls := "java/lang/Object", name := "<init>", desc := "()V" } : Jvm.MethodName)) ∈ lw_all := lw_g (lw_at lw_m4 25 rfl) rfl
theorem q878 : (Jvm.Cond.fieldLink "java/lang/AbstractStringBuilder" (18 : Nat) "java/lang/String" "COMPACT_STRINGS" "Z") ∈ lw_all := lw_g (lw_at lw_m4 26 rfl) rfl
theorem q880 : (Jvm.Cond.methodLink "java/lang/AbstractStringBuilder" (26 : Nat) ({ cls := "java/lang/StringUTF16", name := "newBytesFor", desc := "(I)[B" } : Jvm.MethodName)) ∈ lw_all := lw_g (lw_at lw_m4 28 rfl) rfl
theorem q887 : (Jvm.Cond.fieldLink "java/lang/AbstractStringBuilder" (15 : Nat) "java/lang/AbstractStringBuilder" "value" "[B") ∈ lw_all := lw_g (lw_at lw_m4 35 rfl) rfl
theorem q888 : (Jvm.Cond.fieldLink "java/lang/AbstractStringBuilder" (22 : Nat) "java/lang/AbstractStringBuilder" "coder" "B") ∈ lw_all := lw_g (lw_at lw_m4 36 rfl) rfl
theorem q890 : (Jvm.Cond.fieldLink "java/lang/AbstractStringBuilder" (79 : Nat) "java/lang/AbstractStringBuilder" "count" "I") ∈ lw_all := lw_g (lw_at lw_m4 38 rfl) rfl
theorem q892 : (Jvm.Cond.soleField "java/lang/AbstractStringBuilder" "value") ∈ lw_all := lw_g (lw_at lw_m4 40 rfl) rfl
theorem q894 : (Jvm.Cond.soleField "java/lang/AbstractStringBuilder" "coder") ∈ lw_all := lw_g (lw_at lw_m4 42 rfl) rfl
theorem q896 : (Jvm.Cond.soleField "java/lang/AbstractStringBuilder" "maybeLatin1") ∈ lw_all := lw_g (lw_at lw_m4 44 rfl) rfl
theorem q898 : (Jvm.Cond.soleField "java/lang/AbstractStringBuilder" "count") ∈ lw_all := lw_g (lw_at lw_m4 46 rfl) rfl
theorem q905 : (Jvm.Cond.instanceMethod ({ cls := "java/lang/AbstractStringBuilder", name := "append", desc := "(C)Ljava/lang/AbstractStringBuilder;" } : Jvm.MethodName)) ∈ lw_all := lw_g (lw_at lw_m4 53 rfl) rfl
theorem q906 : (Jvm.Cond.code ({ cls := "java/lang/AbstractStringBuilder", name := "append", desc := "(C)Ljava/lang/AbstractStringBuilder;" } : Jvm.MethodName) prog_22_method_31_code (2 : Nat) (Option.some (Jvm.ClassFile.FieldType.object "java/lang/AbstractStringBuilder"))) ∈ lw_all := lw_g (lw_at lw_m4 54 rfl) rfl
theorem q907 : (Jvm.Cond.methodLink "java/lang/AbstractStringBuilder" (100 : Nat) ({ cls := "java/lang/AbstractStringBuilder", name := "ensureCapacityInternal", desc := "(I)V" } : Jvm.MethodName)) ∈ lw_all := lw_g (lw_at lw_m4 55 rfl) rfl
theorem q908 : (Jvm.Cond.privateMethod ({ cls := "java/lang/AbstractStringBuilder", name := "ensureCapacityInternal", desc := "(I)V" } : Jvm.MethodName)) ∈ lw_tbl := lw_at lw_m4 56 rfl
theorem q909 : (Jvm.Cond.instanceMethod ({ cls := "java/lang/AbstractStringBuilder", name := "ensureCapacityInternal", desc := "(I)V" } : Jvm.MethodName)) ∈ lw_all := lw_g (lw_at lw_m4 57 rfl) rfl
theorem q910 : (Jvm.Cond.code ({ cls := "java/lang/AbstractStringBuilder", name := "ensureCapacityInternal", desc := "(I)V" } : Jvm.MethodName) prog_22_method_9_code (3 : Nat) (Option.none : Option Jvm.ClassFile.FieldType)) ∈ lw_all := lw_g (lw_at lw_m4 58 rfl) rfl
theorem q911 : (Jvm.Cond.methodLink "java/lang/AbstractStringBuilder" (104 : Nat) ({ cls := "java/lang/AbstractStringBuilder", name := "newCapacity", desc := "(I)I" } : Jvm.MethodName)) ∈ lw_all := lw_g (lw_at lw_m4 59 rfl) rfl
theorem q912 : (Jvm.Cond.privateMethod ({ cls := "java/lang/AbstractStringBuilder", name := "newCapacity", desc := "(I)I" } : Jvm.MethodName)) ∈ lw_tbl := lw_at lw_m4 60 rfl
theorem q913 : (Jvm.Cond.instanceMethod ({ cls := "java/lang/AbstractStringBuilder", name := "newCapacity", desc := "(I)I" } : Jvm.MethodName)) ∈ lw_all := lw_g (lw_at lw_m4 61 rfl) rfl
theorem q914 : (Jvm.Cond.code ({ cls := "java/lang/AbstractStringBuilder", name := "newCapacity", desc := "(I)I" } : Jvm.MethodName) prog_22_method_10_code (6 : Nat) (Option.some Jvm.ClassFile.FieldType.int)) ∈ lw_all := lw_g (lw_at lw_m4 62 rfl) rfl
theorem q915 : (Jvm.Cond.methodLink "java/lang/AbstractStringBuilder" (114 : Nat) ({ cls := "jdk/internal/util/ArraysSupport", name := "newLength", desc := "(III)I" } : Jvm.MethodName)) ∈ lw_all := lw_g (lw_at lw_m4 63 rfl) rfl
theorem q923 : (Jvm.Cond.constant "java/lang/AbstractStringBuilder" (39 : Nat) (2147483647 : Int32)) ∈ lw_all := lw_g (lw_at lw_m4 71 rfl) rfl
theorem q924 : (Jvm.Cond.methodLink "java/lang/AbstractStringBuilder" (108 : Nat) ({ cls := "java/util/Arrays", name := "copyOf", desc := "([BI)[B" } : Jvm.MethodName)) ∈ lw_all := lw_g (lw_at lw_m4 72 rfl) rfl
theorem q936 : (Jvm.Cond.methodLink "java/lang/AbstractStringBuilder" (83 : Nat) ({ cls := "java/lang/AbstractStringBuilder", name := "isLatin1", desc := "()Z" } : Jvm.MethodName)) ∈ lw_all := lw_g (lw_at lw_m4 84 rfl) rfl
theorem q937 : (Jvm.Cond.instanceMethod ({ cls := "java/lang/AbstractStringBuilder", name := "isLatin1", desc := "()Z" } : Jvm.MethodName)) ∈ lw_all := lw_g (lw_at lw_m4 85 rfl) rfl
theorem q938 : (Jvm.Cond.sameMethod "java/lang/AbstractStringBuilder" "java/lang/AbstractStringBuilder" "isLatin1" "()Z") ∈ lw_all := lw_g (lw_at lw_m4 86 rfl) rfl
theorem q940 : (Jvm.Cond.code ({ cls := "java/lang/AbstractStringBuilder", name := "isLatin1", desc := "()Z" } : Jvm.MethodName) prog_22_method_68_code (1 : Nat) (Option.some Jvm.ClassFile.FieldType.boolean)) ∈ lw_all := lw_g (lw_at lw_m4 88 rfl) rfl
theorem q941 : (Jvm.Cond.methodLink "java/lang/AbstractStringBuilder" (191 : Nat) ({ cls := "java/lang/StringLatin1", name := "canEncode", desc := "(C)Z" } : Jvm.MethodName)) ∈ lw_all := lw_g (lw_at lw_m4 89 rfl) rfl
theorem q944 : (Jvm.Cond.methodLink "java/lang/AbstractStringBuilder" (195 : Nat) ({ cls := "java/lang/AbstractStringBuilder", name := "inflate", desc := "()V" } : Jvm.MethodName)) ∈ lw_all := lw_g (lw_at lw_m4 92 rfl) rfl
theorem q945 : (Jvm.Cond.privateMethod ({ cls := "java/lang/AbstractStringBuilder", name := "inflate", desc := "()V" } : Jvm.MethodName)) ∈ lw_tbl := lw_at lw_m4 93 rfl
theorem q946 : (Jvm.Cond.instanceMethod ({ cls := "java/lang/AbstractStringBuilder", name := "inflate", desc := "()V" } : Jvm.MethodName)) ∈ lw_all := lw_g (lw_at lw_m4 94 rfl) rfl
theorem q947 : (Jvm.Cond.code ({ cls := "java/lang/AbstractStringBuilder", name := "inflate", desc := "()V" } : Jvm.MethodName) prog_22_method_11_code (2 : Nat) (Option.none : Option Jvm.ClassFile.FieldType)) ∈ lw_all := lw_g (lw_at lw_m4 95 rfl) rfl
theorem q948 : (Jvm.Cond.methodLink "java/lang/AbstractStringBuilder" (125 : Nat) ({ cls := "java/lang/StringLatin1", name := "inflate", desc := "([BI[BII)V" } : Jvm.MethodName)) ∈ lw_all := lw_g (lw_at lw_m4 96 rfl) rfl
theorem q977 : (Jvm.Cond.methodLink "java/lang/AbstractStringBuilder" (197 : Nat) ({ cls := "java/lang/StringUTF16", name := "putCharSB", desc := "([BII)V" } : Jvm.MethodName)) ∈ lw_all := lw_g (lw_at lw_m4 125 rfl) rfl
theorem q1001 : (Jvm.Cond.instanceMethod ({ cls := "java/lang/AbstractStringBuilder", name := "getValue", desc := "()[B" } : Jvm.MethodName)) ∈ lw_all := lw_g (lw_at lw_m4 149 rfl) rfl
theorem q1002 : (Jvm.Cond.sameMethod "java/lang/AbstractStringBuilder" "java/lang/AbstractStringBuilder" "getValue" "()[B") ∈ lw_all := lw_g (lw_at lw_m4 150 rfl) rfl
theorem q1004 : (Jvm.Cond.code ({ cls := "java/lang/AbstractStringBuilder", name := "getValue", desc := "()[B" } : Jvm.MethodName) prog_22_method_64_code (1 : Nat) (Option.some (Jvm.ClassFile.FieldType.array Jvm.ClassFile.FieldType.byte))) ∈ lw_all := lw_g (lw_at lw_m4 152 rfl) rfl
theorem q1006 : (Jvm.Cond.instanceMethod ({ cls := "java/lang/AbstractStringBuilder", name := "length", desc := "()I" } : Jvm.MethodName)) ∈ lw_all := lw_g (lw_at lw_m4 154 rfl) rfl
theorem q1007 : (Jvm.Cond.sameMethod "java/lang/AbstractStringBuilder" "java/lang/AbstractStringBuilder" "length" "()I") ∈ lw_all := lw_g (lw_at lw_m4 155 rfl) rfl
theorem q1012 : (Jvm.Cond.code ({ cls := "java/lang/AbstractStringBuilder", name := "length", desc := "()I" } : Jvm.MethodName) prog_22_method_6_code (1 : Nat) (Option.some Jvm.ClassFile.FieldType.int)) ∈ lw_all := lw_g (lw_at lw_m4 160 rfl) rfl
theorem q1075 : (Jvm.Cond.instanceMethod ({ cls := "java/lang/AbstractStringBuilder", name := "append", desc := "(I)Ljava/lang/AbstractStringBuilder;" } : Jvm.MethodName)) ∈ lw_all := lw_g (lw_at lw_m4 223 rfl) rfl
theorem q1076 : (Jvm.Cond.code ({ cls := "java/lang/AbstractStringBuilder", name := "append", desc := "(I)Ljava/lang/AbstractStringBuilder;" } : Jvm.MethodName) prog_22_method_32_code (4 : Nat) (Option.some (Jvm.ClassFile.FieldType.object "java/lang/AbstractStringBuilder"))) ∈ lw_all := lw_g (lw_at lw_m4 224 rfl) rfl
theorem q1077 : (Jvm.Cond.methodLink "java/lang/AbstractStringBuilder" (245 : Nat) ({ cls := "java/lang/Integer", name := "stringSize", desc := "(I)I" } : Jvm.MethodName)) ∈ lw_all := lw_g (lw_at lw_m4 225 rfl) rfl
theorem q1080 : (Jvm.Cond.methodLink "java/lang/AbstractStringBuilder" (248 : Nat) ({ cls := "java/lang/Integer", name := "getChars", desc := "(II[B)I" } : Jvm.MethodName)) ∈ lw_all := lw_g (lw_at lw_m4 228 rfl) rfl
theorem q1087 : (Jvm.Cond.methodLink "java/lang/AbstractStringBuilder" (251 : Nat) ({ cls := "java/lang/StringUTF16", name := "getChars", desc := "(III[B)I" } : Jvm.MethodName)) ∈ lw_all := lw_g (lw_at lw_m4 235 rfl) rfl
theorem q1110 : (Jvm.Cond.instanceMethod ({ cls := "java/lang/AbstractStringBuilder", name := "append", desc := "(Ljava/lang/String;)Ljava/lang/AbstractStringBuilder;" } : Jvm.MethodName)) ∈ lw_all := lw_g (lw_at lw_m5 18 rfl) rfl
theorem q1111 : (Jvm.Cond.code ({ cls := "java/lang/AbstractStringBuilder", name := "append", desc := "(Ljava/lang/String;)Ljava/lang/AbstractStringBuilder;" } : Jvm.MethodName) prog_22_method_22_code (3 : Nat) (Option.some (Jvm.ClassFile.FieldType.object "java/lang/AbstractStringBuilder"))) ∈ lw_all := lw_g (lw_at lw_m5 19 rfl) rfl
theorem q1112 : (Jvm.Cond.methodLink "java/lang/AbstractStringBuilder" (204 : Nat) ({ cls := "java/lang/AbstractStringBuilder", name := "appendNull", desc := "()Ljava/lang/AbstractStringBuilder;" } : Jvm.MethodName)) ∈ lw_all := lw_g (lw_at lw_m5 20 rfl) rfl
theorem q1113 : (Jvm.Cond.privateMethod ({ cls := "java/lang/AbstractStringBuilder", name := "appendNull", desc := "()Ljava/lang/AbstractStringBuilder;" } : Jvm.MethodName)) ∈ lw_tbl := lw_at lw_m5 21 rfl
theorem q1114 : (Jvm.Cond.instanceMethod ({ cls := "java/lang/AbstractStringBuilder", name := "appendNull", desc := "()Ljava/lang/AbstractStringBuilder;" } : Jvm.MethodName)) ∈ lw_all := lw_g (lw_at lw_m5 22 rfl) rfl
theorem q1115 : (Jvm.Cond.code ({ cls := "java/lang/AbstractStringBuilder", name := "appendNull", desc := "()Ljava/lang/AbstractStringBuilder;" } : Jvm.MethodName) prog_22_method_26_code (3 : Nat) (Option.some (Jvm.ClassFile.FieldType.object "java/lang/AbstractStringBuilder"))) ∈ lw_all := lw_g (lw_at lw_m5 23 rfl) rfl
theorem q1116 : (Jvm.Cond.methodLink "java/lang/AbstractStringBuilder" (226 : Nat) ({ cls := "java/lang/StringUTF16", name := "putCharsAt", desc := "([BICCCC)I" } : Jvm.MethodName)) ∈ lw_all := lw_g (lw_at lw_m5 24 rfl) rfl
theorem q1119 : (Jvm.Cond.methodLink "java/lang/AbstractStringBuilder" (32 : Nat) ({ cls := "java/lang/String", name := "length", desc := "()I" } : Jvm.MethodName)) ∈ lw_all := lw_g (lw_at lw_m5 27 rfl) rfl
theorem q1128 : (Jvm.Cond.methodLink "java/lang/AbstractStringBuilder" (208 : Nat) ({ cls := "java/lang/AbstractStringBuilder", name := "putStringAt", desc := "(ILjava/lang/String;)V" } : Jvm.MethodName)) ∈ lw_all := lw_g (lw_at lw_m5 36 rfl) rfl
theorem q1129 : (Jvm.Cond.privateMethod ({ cls := "java/lang/AbstractStringBuilder", name := "putStringAt", desc := "(ILjava/lang/String;)V" } : Jvm.MethodName)) ∈ lw_tbl := lw_at lw_m5 37 rfl
theorem q1130 : (Jvm.Cond.instanceMethod ({ cls := "java/lang/AbstractStringBuilder", name := "putStringAt", desc := "(ILjava/lang/String;)V" } : Jvm.MethodName)) ∈ lw_all := lw_g (lw_at lw_m5 38 rfl) rfl
theorem q1131 : (Jvm.Cond.code ({ cls := "java/lang/AbstractStringBuilder", name := "putStringAt", desc := "(ILjava/lang/String;)V" } : Jvm.MethodName) prog_22_method_73_code (3 : Nat) (Option.none : Option Jvm.ClassFile.FieldType)) ∈ lw_all := lw_g (lw_at lw_m5 39 rfl) rfl
theorem q1132 : (Jvm.Cond.methodLink "java/lang/AbstractStringBuilder" (397 : Nat) ({ cls := "java/lang/AbstractStringBuilder", name := "inflateIfNeededFor", desc := "(Ljava/lang/String;)V" } : Jvm.MethodName)) ∈ lw_all := lw_g (lw_at lw_m5 40 rfl) rfl
theorem q1133 : (Jvm.Cond.privateMethod ({ cls := "java/lang/AbstractStringBuilder", name := "inflateIfNeededFor", desc := "(Ljava/lang/String;)V" } : Jvm.MethodName)) ∈ lw_tbl := lw_at lw_m5 41 rfl
theorem q1134 : (Jvm.Cond.instanceMethod ({ cls := "java/lang/AbstractStringBuilder", name := "inflateIfNeededFor", desc := "(Ljava/lang/String;)V" } : Jvm.MethodName)) ∈ lw_all := lw_g (lw_at lw_m5 42 rfl) rfl
theorem q1135 : (Jvm.Cond.code ({ cls := "java/lang/AbstractStringBuilder", name := "inflateIfNeededFor", desc := "(Ljava/lang/String;)V" } : Jvm.MethodName) prog_22_method_71_code (2 : Nat) (Option.none : Option Jvm.ClassFile.FieldType)) ∈ lw_all := lw_g (lw_at lw_m5 43 rfl) rfl
theorem q1136 : (Jvm.Cond.methodLink "java/lang/AbstractStringBuilder" (40 : Nat) ({ cls := "java/lang/String", name := "coder", desc := "()B" } : Jvm.MethodName)) ∈ lw_all := lw_g (lw_at lw_m5 44 rfl) rfl
theorem q1137 : (Jvm.Cond.methodLink "java/lang/AbstractStringBuilder" (399 : Nat) ({ cls := "java/lang/String", name := "getBytes", desc := "([BIB)V" } : Jvm.MethodName)) ∈ lw_all := lw_g (lw_at lw_m5 45 rfl) rfl
theorem q2743 : (Jvm.Cond.sameMethod "java/lang/AbstractStringBuilder" "java/lang/AbstractStringBuilder" "append" "(C)Ljava/lang/AbstractStringBuilder;") ∈ lw_all := lw_g (lw_at lw_m11 211 rfl) rfl
theorem q2744 : (Jvm.Cond.sameMethod "java/lang/AbstractStringBuilder" "java/lang/AbstractStringBuilder" "ensureCapacityInternal" "(I)V") ∈ lw_all := lw_g (lw_at lw_m11 212 rfl) rfl
theorem q2745 : (Jvm.Cond.sameMethod "java/lang/AbstractStringBuilder" "java/lang/AbstractStringBuilder" "newCapacity" "(I)I") ∈ lw_all := lw_g (lw_at lw_m11 213 rfl) rfl
theorem q2746 : (Jvm.Cond.sameMethod "java/lang/AbstractStringBuilder" "java/lang/AbstractStringBuilder" "inflate" "()V") ∈ lw_all := lw_g (lw_at lw_m11 214 rfl) rfl
theorem q2748 : (Jvm.Cond.sameMethod "java/lang/AbstractStringBuilder" "java/lang/AbstractStringBuilder" "append" "(I)Ljava/lang/AbstractStringBuilder;") ∈ lw_all := lw_g (lw_at lw_m11 216 rfl) rfl
theorem q2749 : (Jvm.Cond.sameMethod "java/lang/AbstractStringBuilder" "java/lang/AbstractStringBuilder" "append" "(Ljava/lang/String;)Ljava/lang/AbstractStringBuilder;") ∈ lw_all := lw_g (lw_at lw_m11 217 rfl) rfl
theorem q2750 : (Jvm.Cond.sameMethod "java/lang/AbstractStringBuilder" "java/lang/AbstractStringBuilder" "appendNull" "()Ljava/lang/AbstractStringBuilder;") ∈ lw_all := lw_g (lw_at lw_m11 218 rfl) rfl
theorem q2751 : (Jvm.Cond.sameMethod "java/lang/AbstractStringBuilder" "java/lang/AbstractStringBuilder" "putStringAt" "(ILjava/lang/String;)V") ∈ lw_all := lw_g (lw_at lw_m11 219 rfl) rfl
theorem q2752 : (Jvm.Cond.sameMethod "java/lang/AbstractStringBuilder" "java/lang/AbstractStringBuilder" "inflateIfNeededFor" "(Ljava/lang/String;)V") ∈ lw_all := lw_g (lw_at lw_m11 220 rfl) rfl
abbrev cJ5_init : ByteArray := prog_39_method_1_code
def yJ5_init : MethodName := ⟨RJ5, "<init>", "()V"⟩
def dkwJ5_init_0 : List UInt8 := [42, 16, 16, 183, 0, 1, 177]
abbrev dktJ5_init_0 : List UInt8 := dkwJ5_init_0 ++ []
theorem dksJ5_init_0 : cJ5_init.data.toList.drop 0 = dktJ5_init_0 := by decide +kernel
theorem dJ5_init_0 : decode cJ5_init 0 = .ok (.aload_n 0, 1) := dk_42 (dk_at dksJ5_init_0 0 rfl rfl)
theorem dJ5_init_1 : decode cJ5_init 1 = .ok (.bipush 16, 2) := dk_16 16 (dk_at dksJ5_init_0 1 rfl rfl)
theorem dJ5_init_3 : decode cJ5_init 3 = .ok (.invokespecial 1, 3) := dk_183 0 1 (dk_at dksJ5_init_0 3 rfl rfl)
theorem dJ5_init_6 : decode cJ5_init 6 = .ok (.return_, 1) := dk_177 (dk_at dksJ5_init_0 6 rfl rfl)
abbrev cJ5_append : ByteArray := prog_39_method_14_code
def yJ5_append : MethodName := ⟨RJ5, "append", "(C)Ljava/lang/StringBuilder;"⟩
def dkwJ5_append_0 : List UInt8 := [42, 27, 183, 0, 50, 87, 42, 176]
abbrev dktJ5_append_0 : List UInt8 := dkwJ5_append_0 ++ []
theorem dksJ5_append_0 : cJ5_append.data.toList.drop 0 = dktJ5_append_0 := by decide +kernel
theorem dJ5_append_0 : decode cJ5_append 0 = .ok (.aload_n 0, 1) := dk_42 (dk_at dksJ5_append_0 0 rfl rfl)
theorem dJ5_append_1 : decode cJ5_append 1 = .ok (.iload_n 1, 1) := dk_27 (dk_at dksJ5_append_0 1 rfl rfl)
theorem dJ5_append_2 : decode cJ5_append 2 = .ok (.invokespecial 50, 3) := dk_183 0 50 (dk_at dksJ5_append_0 2 rfl rfl)
theorem dJ5_append_5 : decode cJ5_append 5 = .ok (.pop, 1) := dk_87 (dk_at dksJ5_append_0 5 rfl rfl)
theorem dJ5_append_6 : decode cJ5_append 6 = .ok (.aload_n 0, 1) := dk_42 (dk_at dksJ5_append_0 6 rfl rfl)
theorem dJ5_append_7 : decode cJ5_append 7 = .ok (.areturn, 1) := dk_176 (dk_at dksJ5_append_0 7 rfl rfl)
abbrev cJ5_toString : ByteArray := prog_39_method_42_code
def yJ5_toString : MethodName := ⟨RJ5, "toString", "()Ljava/lang/String;"⟩
def dkwJ5_toString_0 : List UInt8 := [187, 0, 18, 89, 42, 183, 0, 137, 176]
abbrev dktJ5_toString_0 : List UInt8 := dkwJ5_toString_0 ++ []
theorem dksJ5_toString_0 : cJ5_toString.data.toList.drop 0 = dktJ5_toString_0 := by decide +kernel
theorem dJ5_toString_0 : decode cJ5_toString 0 = .ok (.new 18, 3) := dk_187 0 18 (dk_at dksJ5_toString_0 0 rfl rfl)
theorem dJ5_toString_3 : decode cJ5_toString 3 = .ok (.dup, 1) := dk_89 (dk_at dksJ5_toString_0 3 rfl rfl)
theorem dJ5_toString_4 : decode cJ5_toString 4 = .ok (.aload_n 0, 1) := dk_42 (dk_at dksJ5_toString_0 4 rfl rfl)
theorem dJ5_toString_5 : decode cJ5_toString 5 = .ok (.invokespecial 137, 3) := dk_183 0 137 (dk_at dksJ5_toString_0 5 rfl rfl)
theorem dJ5_toString_8 : decode cJ5_toString 8 = .ok (.areturn, 1) := dk_176 (dk_at dksJ5_toString_0 8 rfl rfl)

/-! STRINGS: fresh ones and constants, by what is read of them -/
/-- a byte array, by its elements -/
def BA (s : State) (H : Heap) (v n : Nat) (f : Nat → Int32) : Prop := ∃ cell : Cell, H[v]? = some cell ∧ s.isArrayOf cell .byte ∧ cell.vm ≠ .unknown ∧ n ≤ cell.slots.size ∧ cell.slots.size.toInt32 = nI n ∧ (∀ j : Nat, j < n → cell.slots[j]? = some (.int (f j))) ∧ n < 2 ^ 31
theorem BA.mv {s U : State} {H H1 : Heap} {v n : Nat} {f : Nat → Int32} (h : BA s H v n f) (ha : s.vm.Alike U.vm) (hq : H1[v]? = H[v]?) : BA U H1 v n f := by
  obtain ⟨cell, h1, h2, h3⟩ := h
  exact ⟨cell, by rw [hq]; exact h1, State.isArrayOf_alike ha h2, h3⟩
theorem BA.lt {s : State} {H : Heap} {v n : Nat} {f : Nat → Int32} (h : BA s H v n f) : v < H.size := by
  obtain ⟨cell, h1, -⟩ := h
  exact (Array.getElem?_eq_some_iff.mp h1).1
theorem BA.of {s : State} {D : va_G} {J : Nat → ClassId} {H : Heap} {v n : Nat} {f : Nat → Int32} (hK : va_K D vwC (tysC J) s) (h : va_at D vwC (v, .inl (J 2, n, .inl f)) H) (hn : n < 2 ^ 31) : BA s H v n f :=
  ⟨arrV (J 2) n (fun j => .int (f j)), h, (hK.2 2 _ rfl).1 n _, (fun q => by cases q), Nat.le_of_eq (arrV_size _ _ _).symm, by rw [arrV_size]; rfl, fun j hj => arrV_read _ _ hj, hn⟩
theorem BA.ofT {s : State} {A : Nat → Prop} {H : Heap} {v n : Nat} {f : Nat → Int32} (h : va_T .byte v n (fun j => .int (f j)) A s H) (hn : n < 2 ^ 31) : BA s H v n f := by
  obtain ⟨cell, h1, h2, h3, h4, h5, h6, h7⟩ := h
  exact ⟨cell, h1, h2, h3, h4, h5, h6, hn⟩
/-- a string's field -/
def SF (s : State) (H : Heap) (n d : String) (v : Value) (q : Nat) : Prop := ∃ (cf : ClassId) (k : Class) (i : Nat) (f : Field) (cell : Cell), s.fieldFound? "java/lang/String" n d = some (cf, k, i, f) ∧ f.isStatic = false ∧ H[q]? = some cell ∧ cell.vm ≠ .unknown ∧ cell.slots[f.slot]? = some v
/-- a string of Latin-1 letters -/
def SP (s : State) (H : Heap) (q v n : Nat) (f : Nat → Int32) : Prop := (∃ cell : Cell, H[q]? = some cell ∧ cell.vm.isStatics = false ∧ s.vm.findClass "java/lang/String" = some cell.cls) ∧ SF s H "value" "[B" (.ref v) q ∧ SF s H "coder" "B" (.int 0) q ∧ BA s H v n f
theorem SF.mv {s U : State} {H H1 : Heap} {n d : String} {v : Value} {q : Nat} (h : va_OF "java/lang/String" n d v q (fun _ => False) s H) (ha : s.vm.Alike U.vm) (hq : H1[q]? = H[q]?) : SF U H1 n d v q := by
  obtain ⟨cf, k, i, f, cell, h1, h2, h3, h4, h5, -⟩ := va_OF.moved ha h
  exact ⟨cf, k, i, f, cell, h1, h2, by rw [hq]; exact h3, h4, h5⟩
theorem SF.toOF {s : State} {H : Heap} {n d : String} {v : Value} {q : Nat} (h : SF s H n d v q) : va_OF "java/lang/String" n d v q (fun _ => False) s H := by
  obtain ⟨cf, k, i, f, cell, h1, h2, h3, h4, h5⟩ := h
  exact ⟨cf, k, i, f, cell, h1, h2, h3, h4, h5, id⟩
theorem SP.mv {s U : State} {H H1 : Heap} {q v n : Nat} {f : Nat → Int32} (h : SP s H q v n f) (ha : s.vm.Alike U.vm) (hq : H1[q]? = H[q]?) (hv : H1[v]? = H[v]?) : SP U H1 q v n f := by
  obtain ⟨⟨cell, h1, h2, h3⟩, h4, h5, h6⟩ := h
  exact ⟨⟨cell, by rw [hq]; exact h1, h2, by rw [ha.findClass]; exact h3⟩, SF.mv h4.toOF ha hq, SF.mv h5.toOF ha hq, h6.mv ha hv⟩
/-- a constant -/
theorem SP.const {s : State} {z : Nat} {aK aV : Nat → Nat} (h : StrE z aK aV s) {i : Nat} (hi : i < nS) {H : Heap} (hq : ∀ q : Nat, q < s.heap.size → ¬ z ≤ q → H[q]? = s.heap[q]?) : SP s H (aK i) (aV i) (lenS.getD i 0) (sBy i) := by
  obtain ⟨h1, h2, h3, h4⟩ := (h.1.kept hq).1 i hi
  obtain ⟨cell, a1, a2, a3, -⟩ := h1
  obtain ⟨cf, k, fi, f, c1, b1, b2, b3, b4, b5, -⟩ := h2
  obtain ⟨cf2, k2, fi2, f2, c2, d1, d2, d3, d4, d5, -⟩ := h3
  exact ⟨⟨cell, a1, a2, a3⟩, ⟨cf2, k2, fi2, f2, c2, d1, d2, d3, d4, d5⟩, ⟨cf, k, fi, f, c1, b1, b2, b3, b4, b5⟩, BA.ofT h4 (by have := (bytS_ok i hi).2.1; omega)⟩
section SROWS
variable {p : Program} {l : Launch} {e : Env} {R : Room} {s : State} {m : MethodId} {args : Array Value} {below : List Frame} {meth : Method} {c : Code} {H : Heap} {locs : List Loc} {cells slots : Nat} {Q : State → Prop}
variable {cc : ByteArray} {pc : Nat} {ls : Array Slot} {rest : List Value} {D : va_G} {J : Nat → ClassId}
theorem sgetf (hx : p.tables.exec = Jvm.exec) (hb : c.code = cc) (hts : ∀ w ∈ lw_all, w.before args s = true) {own n d : String} {index q : Nat} {v : Value} (hown : s.vm.findClass own = some m.cls) (h : SF s H n d v q) (hl : Cond.fieldLink own index "java/lang/String" n d ∈ lw_all) (hdg : decode cc pc = .ok (.getfield index, 3))
    (kk : W p l e R s m args below meth c H locs cells slots Q (F0 m (pc + 3) ls (v :: rest))) : W p l e R s m args below meth c H locs cells slots Q (F0 m pc ls (.ref q :: rest)) := by
  obtain ⟨cf, k, i, f, cell, h1, h2, h3, h4, h5⟩ := h
  exact W.getf hx hb hown (hts _ hl) h1 h2 h3 h4 (v := v) h5 rfl rfl hdg kk
theorem salen (hx : p.tables.exec = Jvm.exec) (hb : c.code = cc) {v n : Nat} {f : Nat → Int32} (h : BA s H v n f) (hdg : decode cc pc = .ok (.arraylength, 1))
    (kk : W p l e R s m args below meth c H locs cells slots Q (F0 m (pc + 1) ls (.int (nI n) :: rest))) : W p l e R s m args below meth c H locs cells slots Q (F0 m pc ls (.ref v :: rest)) := by
  obtain ⟨cell, h1, h2, h3, h4, h5, h6, h7⟩ := h
  exact W.alen hx hb h1 h2 h5 rfl rfl hdg kk
theorem sbald (hx : p.tables.exec = Jvm.exec) (hb : c.code = cc) {v n i : Nat} {f : Nat → Int32} (h : BA s H v n f) (hi : i < n) (hdg : decode cc pc = .ok (.baload, 1))
    (kk : W p l e R s m args below meth c H locs cells slots Q (F0 m (pc + 1) ls (.int (f i) :: rest))) : W p l e R s m args below meth c H locs cells slots Q (F0 m pc ls (.int (nI i) :: .ref v :: rest)) := by
  obtain ⟨cell, h1, h2, h3, h4, h5, h6, h7⟩ := h
  have hc : (nI i).toNatClampNeg = i := nI_clamp (by omega)
  refine W.bald hx hb h1 h2 h3 (j := nI i) (v := .int (f i)) ?_ (by rw [hc]; exact h6 i hi) rfl rfl hdg kk
  rw [hc]
  intro g
  rcases g with g | g
  · exact nI_pos (by omega) g
  · omega
end SROWS
def beq8 (n m : Nat) (f g : Nat → Int32) : Int32 := if n = m ∧ ∀ j, j < n → f j = g j then 1 else 0
theorem beq8_01 (n m : Nat) (f g : Nat → Int32) : beq8 n m f g = 0 ∨ beq8 n m f g = 1 := by
  unfold beq8
  split
  · exact Or.inr rfl
  · exact Or.inl rfl

set_option maxHeartbeats 4000000 in
theorem mJ10_equals : ∀ (l : Launch) (a b n m0 : Nat) (f g : Nat → Int32), Met l yJ10_equals (ws_ yJ10_equals cJ10_equals 3 (some .boolean)) ({ frames := 1, cells := 0, slots := 0, locals := 40 }) (va_Pc [.ref a, .ref b] (fun U => BA U U.heap a n f ∧ BA U U.heap b m0 g)) (va_Qi (fun (x : Int32) (_ : Unit) => x = beq8 n m0 f g) (fun _ _ => True) (fun _ => False)) 0 0 (fun _ => False) := by
  intro l a b n m0 f g
  refine Met.ofW (cc := cJ10_equals) (maxL := 3) (ret := some .boolean) (by decide) rfl ?_
  intro p e s m args below meth c s₁ B hml hv
  obtain ⟨rfl, ha, hb1⟩ := hv
  have hts := atoms_spec (ws := ws_ yJ10_equals cJ10_equals 3 (some .boolean)) B.pre
  have hts : ∀ w ∈ lw_all, w.before _ s = true := fun w h => hts w (List.mem_cons_of_mem _ h)
  have hown : s.vm.findClass RJ10 = some m.cls := findClass_of_methodNamed B.named
  have hl := lv_entry [.ref a, .ref b] (n := 3) (Nat.le_of_ble_eq_true rfl)
  rw [lg_entry_eq]
  generalize (lg_sl [.ref a, .ref b] ++ List.replicate (3 - (lg_sl [.ref a, .ref b]).length) Slot.unset).toArray = ls at hl ⊢
  have hl : lv_has ls 3 [(0, .ref a), (1, .ref b)] := hl
  have hx := B.exec
  have hb := B.bytes
  have hn := ha.choose_spec.2.2.2.2.2.2
  have hm := hb1.choose_spec.2.2.2.2.2.2
  have hret : ∀ (x : Int32) (pc : Nat) (ls : Array Slot), x = beq8 n m0 f g → decode cJ10_equals pc = .ok (.ireturn, 1) → W p l e ({ frames := 1, cells := 0, slots := 0, locals := 40 } : Room) s m #[Value.ref a, Value.ref b] below meth c s.heap [] 0 0 (MQ below (va_Qi (fun (x : Int32) (_ : Unit) => x = beq8 n m0 f g) (fun _ _ => True) (fun _ => False)) #[Value.ref a, Value.ref b] s 0 0 (fun _ => False)) (F0 m pc ls [.int x]) := fun x pc ls hx9 hdg => W.zret B.exec B.bytes B.returns (by rw [hx9]; exact zb_n (beq8_01 _ _ _ _)) (fun t ht hW => ⟨⟨x, (), rfl, hx9, trivial⟩, (va_S.rf (A := fun _ => False) (H0 := s.heap)).F ht⟩) (fun _ h => nomatch h) hdg B.notSynchronized
  refine lv_aload_n hx hb dJ10_equals_0 rfl (lv_at hl 0 rfl) ?_
  refine salen hx hb ha dJ10_equals_1 ?_
  refine lv_aload_n hx hb dJ10_equals_2 rfl (lv_at hl 1 rfl) ?_
  refine salen hx hb hb1 dJ10_equals_3 ?_
  by_cases c0 : n = m0
  · subst c0
    refine lv_icmp_ne (tgt := 34) hx hb dJ10_equals_4 (by decide) (fun hc => absurd rfl hc) (fun _ => ?_)
    refine lv_iconst (v := (0 : Int32)) hx hb dJ10_equals_7 (by decide) ?_
    refine lv_istore_n (lv' := [(2, .int (0 : Int32)), (0, .ref a), (1, .ref b)]) hx hb dJ10_equals_8 rfl hl (by decide) rfl (fun ls hl => ?_)
    have loop : ∀ (k i : Nat) (ls : Array Slot), i + k = n → (∀ j, j < i → f j = g j) → lv_has ls 3 [(2, .int (nI i)), (0, .ref a), (1, .ref b)] → W p l e ({ frames := 1, cells := 0, slots := 0, locals := 40 } : Room) s m #[Value.ref a, Value.ref b] below meth c s.heap [] 0 0 (MQ below (va_Qi (fun (x : Int32) (_ : Unit) => x = beq8 n n f g) (fun _ _ => True) (fun _ => False)) #[Value.ref a, Value.ref b] s 0 0 (fun _ => False)) (F0 m 9 ls []) := by
      intro k
      induction k with
      | zero =>
        intro i ls hik hfg hl
        refine lv_iload_n hx hb dJ10_equals_9 rfl (lv_at hl 0 rfl) ?_
        refine lv_aload_n hx hb dJ10_equals_10 rfl (lv_at hl 1 rfl) ?_
        refine salen hx hb ha dJ10_equals_11 ?_
        refine lv_icmp_ge (tgt := 32) hx hb dJ10_equals_12 (by decide) (fun _ => ?_) (fun hc => absurd (nI_le (show n ≤ i by omega) (by omega)) hc)
        refine lv_iconst (v := (1 : Int32)) hx hb dJ10_equals_32 (by decide) ?_
        refine hret 1 33 ls ?_ dJ10_equals_33
        unfold beq8
        rw [if_pos ⟨rfl, fun j hj => hfg j (by omega)⟩]
      | succ k ih =>
        intro i ls hik hfg hl
        refine lv_iload_n hx hb dJ10_equals_9 rfl (lv_at hl 0 rfl) ?_
        refine lv_aload_n hx hb dJ10_equals_10 rfl (lv_at hl 1 rfl) ?_
        refine salen hx hb ha dJ10_equals_11 ?_
        refine lv_icmp_ge (tgt := 32) hx hb dJ10_equals_12 (by decide) (fun hc => absurd hc (nI_ge (by omega) (by omega))) (fun _ => ?_)
        refine lv_aload_n hx hb dJ10_equals_15 rfl (lv_at hl 1 rfl) ?_
        refine lv_iload_n hx hb dJ10_equals_16 rfl (lv_at hl 0 rfl) ?_
        refine sbald hx hb ha (show i < n by omega) dJ10_equals_17 ?_
        refine lv_aload_n hx hb dJ10_equals_18 rfl (lv_at hl 2 rfl) ?_
        refine lv_iload_n hx hb dJ10_equals_19 rfl (lv_at hl 0 rfl) ?_
        refine sbald hx hb hb1 (show i < n by omega) dJ10_equals_20 ?_
        by_cases c1 : f i = g i
        · rw [c1]
          refine lv_icmp_eq (tgt := 26) hx hb dJ10_equals_21 (by decide) (fun _ => ?_) (fun hc => absurd rfl hc)
          refine lv_iinc (v := nI (i + 1)) (lv' := [(2, .int (nI (i + 1))), (0, .ref a), (1, .ref b)]) hx hb dJ10_equals_26 hl (k := 0) rfl (nI_1 i) (by decide) rfl (fun ls hl => ?_)
          refine lv_goto (tgt := 9) hx hb dJ10_equals_29 (by decide) ?_
          refine ih (i + 1) ls (by omega) (fun j hj => ?_) hl
          rcases Nat.lt_or_ge j i with h9 | h9
          · exact hfg j h9
          · rw [show j = i by omega]; exact c1
        refine lv_icmp_eq (tgt := 26) hx hb dJ10_equals_21 (by decide) (fun hc => absurd hc c1) (fun _ => ?_)
        refine lv_iconst (v := (0 : Int32)) hx hb dJ10_equals_24 (by decide) ?_
        refine hret 0 25 ls ?_ dJ10_equals_25
        unfold beq8
        rw [if_neg (fun h => c1 (h.2 i (by omega)))]
    exact loop n 0 ls (Nat.zero_add n) (fun j hj => absurd hj (Nat.not_lt_zero j)) hl
  refine lv_icmp_ne (tgt := 34) hx hb dJ10_equals_4 (by decide) (fun _ => ?_) (fun hc => absurd ((nI_eq hn hm).mp hc) c0)
  refine lv_iconst (v := (0 : Int32)) hx hb dJ10_equals_34 (by decide) ?_
  refine hret 0 35 ls ?_ dJ10_equals_35
  unfold beq8
  rw [if_neg (fun h => c0 h.1)]
set_option maxHeartbeats 4000000 in
theorem mJ6_equals : ∀ (l : Launch) (D : va_G) (J : Nat → ClassId) (z : Nat) (aK aV : Nat → Nat) (a b va vb n m0 : Nat) (f g : Nat → Int32), Met l yJ6_equals (ws_ yJ6_equals cJ6_equals 3 (some .boolean)) ({ frames := 2, cells := 0, slots := 0, locals := 100 }) (va_Pc [.ref a, .ref b] (fun U => (SP U U.heap a va n f ∧ SP U U.heap b vb m0 g ∧ a ≠ b) ∧ EC D J z aK aV U)) (va_Qi (fun (x : Int32) (_ : Unit) => x = beq8 n m0 f g) (fun _ _ => True) (fun _ => False)) 0 0 (fun _ => False) := by
  intro l D J z aK aV a b va vb n m0 f g
  refine Met.ofW (cc := cJ6_equals) (maxL := 3) (ret := some .boolean) (by decide) rfl ?_
  intro p e s m args below meth c s₁ B hml hv
  obtain ⟨rfl, ⟨ha, hb1, hab⟩, hE⟩ := hv
  have hts := atoms_spec (ws := ws_ yJ6_equals cJ6_equals 3 (some .boolean)) B.pre
  have hts : ∀ w ∈ lw_all, w.before _ s = true := fun w h => hts w (List.mem_cons_of_mem _ h)
  have hown : s.vm.findClass RJ6 = some m.cls := findClass_of_methodNamed B.named
  have hl := lv_entry [.ref a, .ref b] (n := 3) (Nat.le_of_ble_eq_true rfl)
  rw [lg_entry_eq]
  generalize (lg_sl [.ref a, .ref b] ++ List.replicate (3 - (lg_sl [.ref a, .ref b]).length) Slot.unset).toArray = ls at hl ⊢
  have hl : lv_has ls 3 [(0, .ref a), (1, .ref b)] := hl
  have hx := B.exec
  have hb := B.bytes
  refine lv_aload_n hx hb dJ6_equals_0 rfl (lv_at hl 0 rfl) ?_
  refine lv_aload_n hx hb dJ6_equals_1 rfl (lv_at hl 1 rfl) ?_
  refine lv_acmp_ne (tgt := 7) (rx := some a) (ry := some b) hx hb dJ6_equals_2 (by decide) (fun _ => ?_) (fun hc => absurd (Option.some.inj hc) hab)
  refine lv_aload_n hx hb dJ6_equals_7 rfl (lv_at hl 1 rfl) ?_
  refine va_instE hx hb hown (hts _ q1289) hb1.1 dJ6_equals_8 ?_
  refine lv_if_eq (tgt := 54) hx hb dJ6_equals_11 (by decide) (fun hc => absurd hc (by decide)) (fun _ => ?_)
  refine lv_aload_n hx hb dJ6_equals_14 rfl (lv_at hl 1 rfl) ?_
  refine va_castE hx hb hown (hts _ q1289) hb1.1 dJ6_equals_15 ?_
  refine lv_astore_n (lv' := [(2, .ref b), (0, .ref a), (1, .ref b)]) hx hb dJ6_equals_18 rfl hl (by decide) rfl (fun ls hl => ?_)
  refine va_gets (A := zZ z) hx hb hE.2.1.2.2.1 va_S.rf hown (hts _ q1127) (fun _ h => h) dJ6_equals_19 ?_
  refine lv_if_eq (tgt := 36) hx hb dJ6_equals_22 (by decide) (fun hc => absurd hc (by decide)) (fun _ => ?_)
  refine lv_aload_n hx hb dJ6_equals_25 rfl (lv_at hl 1 rfl) ?_
  refine sgetf hx hb hts hown ha.2.2.1 q1183 dJ6_equals_26 ?_
  refine lv_aload_n hx hb dJ6_equals_29 rfl (lv_at hl 0 rfl) ?_
  refine sgetf hx hb hts hown hb1.2.2.1 q1183 dJ6_equals_30 ?_
  refine lv_icmp_ne (tgt := 54) hx hb dJ6_equals_33 (by decide) (fun hc => absurd rfl hc) (fun _ => ?_)
  refine lv_aload_n hx hb dJ6_equals_36 rfl (lv_at hl 1 rfl) ?_
  refine sgetf hx hb hts hown ha.2.1 q1182 dJ6_equals_37 ?_
  refine lv_aload_n hx hb dJ6_equals_40 rfl (lv_at hl 0 rfl) ?_
  refine sgetf hx hb hts hown hb1.2.1 q1182 dJ6_equals_41 ?_
  refine va_calli (va_runS (As := [.ref va, .ref vb]) (rest := []) ⟨hx, hb, hml, hown, hts⟩ (mJ10_equals l va vb n m0 f g) (va_cwS 2 hts (lw_S q1290 q1291 q151 q1292) rfl rfl rfl (by decide +kernel) ⟨Nat.le_of_ble_eq_true rfl, Nat.le_of_ble_eq_true rfl⟩) ⟨fun _ U g mk q => ⟨q.1, q.2.1.mv (Vm.Alike.refl _) rfl, q.2.2.mv (Vm.Alike.refl _) rfl⟩, fun U hU hW => ⟨rfl, by show BA U U.heap va n f ∧ BA U U.heap vb m0 g; rw [hU]; exact ⟨ha.2.2.2.mv hW.alike rfl, hb1.2.2.2.mv hW.alike rfl⟩⟩⟩ rfl rfl hl.1 rfl (lv_room (Nat.le_of_ble_eq_true rfl)) dJ6_equals_44 ⟨Nat.le_of_ble_eq_true rfl, Nat.le_of_ble_eq_true rfl⟩) (va_S.rf (A := fun _ => False)) (fun _ _ h => h) (fun _ h => h) (fun r u t H1 locs1 ht hvm hp hB hz1 hk1 hS => ?_)
  have hr : r = beq8 n m0 f g := hp
  subst hr
  have hret : ∀ (x : Int32) (ls : Array Slot), x = beq8 n m0 f g → W p l e ({ frames := 2, cells := 0, slots := 0, locals := 100 } : Room) s m #[Value.ref a, Value.ref b] below meth c H1 locs1 0 0 (MQ below (va_Qi (fun (x : Int32) (_ : Unit) => x = beq8 n m0 f g) (fun _ _ => True) (fun _ => False)) #[Value.ref a, Value.ref b] s 0 0 (fun _ => False)) (F0 m 55 ls [.int x]) := fun x ls hx9 => W.zret B.exec B.bytes B.returns (by rw [hx9]; exact zb_n (beq8_01 _ _ _ _)) (fun t ht hW => ⟨⟨x, (), rfl, hx9, trivial⟩, hS.F ht⟩) hS.2.2 dJ6_equals_55 B.notSynchronized
  rcases beq8_01 n m0 f g with h0 | h0
  · rw [h0] at hret ⊢
    refine lv_if_eq (tgt := 54) hx hb dJ6_equals_47 (by decide) (fun _ => ?_) (fun hc => absurd rfl hc)
    refine lv_iconst (v := (0 : Int32)) hx hb dJ6_equals_54 (by decide) ?_
    exact hret 0 ls rfl
  · rw [h0] at hret ⊢
    refine lv_if_eq (tgt := 54) hx hb dJ6_equals_47 (by decide) (fun hc => absurd hc (by decide)) (fun _ => ?_)
    refine lv_iconst (v := (1 : Int32)) hx hb dJ6_equals_50 (by decide) ?_
    refine lv_goto (tgt := 55) hx hb dJ6_equals_51 (by decide) ?_
    exact hret 1 ls rfl
