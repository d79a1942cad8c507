/-! LateInksModel -/
set_option maxRecDepth 100000
def RX7 : String := "LateInksModel"
def TX7 : u_T := fun k => match k with
  | 0 => ("LateInksModel", "thrown", "I", false)
  | 1 => ("LateInksModel", "m", "[I", true)
  | 2 => ("LateInksModel", "kept", "[I", true)
  | 3 => ("LateInksModel", "hasImage", "Z", false)
  | 4 => ("LateInksModel", "aside", "[I", true)
  | 5 => ("LateInksModel", "acts", "[I", true)
  | 6 => ("LateInksModel", "acted", "I", false)
  | 7 => ("LateInksModel", "tape", "[I", true)
  | 8 => ("LateInksModel", "taped", "I", false)
  | 9 => ("LateInksModel", "base", "I", false)
  | 10 => ("LateInksModel", "end", "I", false)
  | 11 => ("LateInksModel", "at", "I", false)
  | 12 => ("LateInksModel", "fault", "I", false)
  | 13 => ("LateInksModel", "deep", "I", false)
  | 14 => ("LateInksModel", "fact", "[I", true)
  | 15 => ("LateInksModel", "isLeaning", "Z", false)
  | 16 => ("LateInksModel", "isBarred", "Z", false)
  | 17 => ("LateInksModel", "ripens", "I", false)
  | 18 => ("LateInksModel", "costs", "I", false)
  | 19 => ("LateInksModel", "sprayed", "I", false)
  | 20 => ("LateInksModel", "fits", "[Z", true)
  | 21 => ("LateInksModel", "ups", "[I", true)
  | 22 => ("LateInksModel", "wide", "[I", true)
  | _ => ("LateInksModel", "prices", "[I", true)
def tyX7 : Nat → FieldType := fun k => match k with
  | 0 => .int
  | 1 => .array .int
  | 2 => .array .int
  | 3 => .boolean
  | 4 => .array .int
  | 5 => .array .int
  | 6 => .int
  | 7 => .array .int
  | 8 => .int
  | 9 => .int
  | 10 => .int
  | 11 => .int
  | 12 => .int
  | 13 => .int
  | 14 => .array .int
  | 15 => .boolean
  | 16 => .boolean
  | 17 => .int
  | 18 => .int
  | 19 => .int
  | 20 => .array .boolean
  | 21 => .array .int
  | 22 => .array .int
  | _ => .array .int
abbrev wsX70 : List Cond := u_ws RX7 TX7 24
set_option maxRecDepth 100000 in
theorem nmX7 : ∀ a, a < 24 → ∀ b, b < 24 → a ≠ b → (TX7 a).2.1 ≠ (TX7 b).2.1 := by decide +kernel
set_option maxRecDepth 100000 in
theorem tyX7_ok : ∀ k, k < 24 → parseFieldDescriptor (TX7 k).2.2.1 = some (tyX7 k) := by decide +kernel
abbrev cX7_init : ByteArray := prog_20_method_1_code
def yX7_init : MethodName := ⟨RX7, "<init>", "()V"⟩
def dkwX7_init_6 : List UInt8 := [167, 255, 238, 177]
abbrev dktX7_init_6 : List UInt8 := dkwX7_init_6 ++ []
def dkwX7_init_5 : List UInt8 := [4, 79, 3, 60, 27, 7, 162, 0, 19, 42, 180, 0, 7, 16, 11, 27, 96, 5, 79, 132, 1, 1]
abbrev dktX7_init_5 : List UInt8 := dkwX7_init_5 ++ dktX7_init_6
def dkwX7_init_4 : List UInt8 := [181, 0, 42, 42, 180, 0, 7, 4, 2, 79, 42, 180, 0, 7, 16, 7, 4, 79, 42, 180, 0, 7, 16, 10]
abbrev dktX7_init_4 : List UInt8 := dkwX7_init_4 ++ dktX7_init_5
def dkwX7_init_3 : List UInt8 := [42, 16, 126, 188, 10, 181, 0, 36, 42, 17, 2, 64, 188, 10, 181, 0, 39, 42, 16, 8, 188, 10]
abbrev dktX7_init_3 : List UInt8 := dkwX7_init_3 ++ dktX7_init_4
def dkwX7_init_2 : List UInt8 := [181, 0, 22, 42, 2, 181, 0, 25, 42, 16, 7, 188, 10, 181, 0, 29, 42, 16, 126, 188, 4, 181, 0, 32]
abbrev dktX7_init_2 : List UInt8 := dkwX7_init_2 ++ dktX7_init_3
def dkwX7_init_1 : List UInt8 := [17, 1, 125, 188, 10, 181, 0, 16, 42, 17, 17, 220, 188, 10, 181, 0, 19, 42, 17, 1, 144, 188, 10]
abbrev dktX7_init_1 : List UInt8 := dkwX7_init_1 ++ dktX7_init_2
def dkwX7_init_0 : List UInt8 := [42, 183, 0, 1, 42, 17, 3, 13, 188, 10, 181, 0, 7, 42, 17, 3, 13, 188, 10, 181, 0, 13, 42]
abbrev dktX7_init_0 : List UInt8 := dkwX7_init_0 ++ dktX7_init_1
theorem dksX7_init_0 : cX7_init.data.toList.drop 0 = dktX7_init_0 := by decide +kernel
theorem dksX7_init_1 : cX7_init.data.toList.drop 23 = dktX7_init_1 := dk_seg dksX7_init_0 23 rfl rfl
theorem dksX7_init_2 : cX7_init.data.toList.drop 46 = dktX7_init_2 := dk_seg dksX7_init_1 23 rfl rfl
theorem dksX7_init_3 : cX7_init.data.toList.drop 70 = dktX7_init_3 := dk_seg dksX7_init_2 24 rfl rfl
theorem dksX7_init_4 : cX7_init.data.toList.drop 92 = dktX7_init_4 := dk_seg dksX7_init_3 22 rfl rfl
theorem dksX7_init_5 : cX7_init.data.toList.drop 116 = dktX7_init_5 := dk_seg dksX7_init_4 24 rfl rfl
theorem dksX7_init_6 : cX7_init.data.toList.drop 138 = dktX7_init_6 := dk_seg dksX7_init_5 22 rfl rfl
theorem dX7_init_0 : decode cX7_init 0 = .ok (.aload_n 0, 1) := dk_42 (dk_at dksX7_init_0 0 rfl rfl)
theorem dX7_init_1 : decode cX7_init 1 = .ok (.invokespecial 1, 3) := dk_183 0 1 (dk_at dksX7_init_0 1 rfl rfl)
theorem dX7_init_4 : decode cX7_init 4 = .ok (.aload_n 0, 1) := dk_42 (dk_at dksX7_init_0 4 rfl rfl)
theorem dX7_init_5 : decode cX7_init 5 = .ok (.sipush 781, 3) := dk_17 3 13 (dk_at dksX7_init_0 5 rfl rfl)
theorem dX7_init_8 : decode cX7_init 8 = .ok (.newarray .int, 2) := dk_188_10 (dk_at dksX7_init_0 8 rfl rfl)
theorem dX7_init_10 : decode cX7_init 10 = .ok (.putfield 7, 3) := dk_181 0 7 (dk_at dksX7_init_0 10 rfl rfl)
theorem dX7_init_13 : decode cX7_init 13 = .ok (.aload_n 0, 1) := dk_42 (dk_at dksX7_init_0 13 rfl rfl)
theorem dX7_init_14 : decode cX7_init 14 = .ok (.sipush 781, 3) := dk_17 3 13 (dk_at dksX7_init_0 14 rfl rfl)
theorem dX7_init_17 : decode cX7_init 17 = .ok (.newarray .int, 2) := dk_188_10 (dk_at dksX7_init_0 17 rfl rfl)
theorem dX7_init_19 : decode cX7_init 19 = .ok (.putfield 13, 3) := dk_181 0 13 (dk_at dksX7_init_0 19 rfl rfl)
theorem dX7_init_22 : decode cX7_init 22 = .ok (.aload_n 0, 1) := dk_42 (dk_at dksX7_init_0 22 rfl rfl)
theorem dX7_init_23 : decode cX7_init 23 = .ok (.sipush 381, 3) := dk_17 1 125 (dk_at dksX7_init_1 0 rfl rfl)
theorem dX7_init_26 : decode cX7_init 26 = .ok (.newarray .int, 2) := dk_188_10 (dk_at dksX7_init_1 3 rfl rfl)
theorem dX7_init_28 : decode cX7_init 28 = .ok (.putfield 16, 3) := dk_181 0 16 (dk_at dksX7_init_1 5 rfl rfl)
theorem dX7_init_31 : decode cX7_init 31 = .ok (.aload_n 0, 1) := dk_42 (dk_at dksX7_init_1 8 rfl rfl)
theorem dX7_init_32 : decode cX7_init 32 = .ok (.sipush 4572, 3) := dk_17 17 220 (dk_at dksX7_init_1 9 rfl rfl)
theorem dX7_init_35 : decode cX7_init 35 = .ok (.newarray .int, 2) := dk_188_10 (dk_at dksX7_init_1 12 rfl rfl)
theorem dX7_init_37 : decode cX7_init 37 = .ok (.putfield 19, 3) := dk_181 0 19 (dk_at dksX7_init_1 14 rfl rfl)
theorem dX7_init_40 : decode cX7_init 40 = .ok (.aload_n 0, 1) := dk_42 (dk_at dksX7_init_1 17 rfl rfl)
theorem dX7_init_41 : decode cX7_init 41 = .ok (.sipush 400, 3) := dk_17 1 144 (dk_at dksX7_init_1 18 rfl rfl)
theorem dX7_init_44 : decode cX7_init 44 = .ok (.newarray .int, 2) := dk_188_10 (dk_at dksX7_init_1 21 rfl rfl)
theorem dX7_init_46 : decode cX7_init 46 = .ok (.putfield 22, 3) := dk_181 0 22 (dk_at dksX7_init_2 0 rfl rfl)
theorem dX7_init_49 : decode cX7_init 49 = .ok (.aload_n 0, 1) := dk_42 (dk_at dksX7_init_2 3 rfl rfl)
theorem dX7_init_50 : decode cX7_init 50 = .ok (.iconst (-1), 1) := dk_2 (dk_at dksX7_init_2 4 rfl rfl)
theorem dX7_init_51 : decode cX7_init 51 = .ok (.putfield 25, 3) := dk_181 0 25 (dk_at dksX7_init_2 5 rfl rfl)
theorem dX7_init_54 : decode cX7_init 54 = .ok (.aload_n 0, 1) := dk_42 (dk_at dksX7_init_2 8 rfl rfl)
theorem dX7_init_55 : decode cX7_init 55 = .ok (.bipush 7, 2) := dk_16 7 (dk_at dksX7_init_2 9 rfl rfl)
theorem dX7_init_57 : decode cX7_init 57 = .ok (.newarray .int, 2) := dk_188_10 (dk_at dksX7_init_2 11 rfl rfl)
theorem dX7_init_59 : decode cX7_init 59 = .ok (.putfield 29, 3) := dk_181 0 29 (dk_at dksX7_init_2 13 rfl rfl)
theorem dX7_init_62 : decode cX7_init 62 = .ok (.aload_n 0, 1) := dk_42 (dk_at dksX7_init_2 16 rfl rfl)
theorem dX7_init_63 : decode cX7_init 63 = .ok (.bipush 126, 2) := dk_16 126 (dk_at dksX7_init_2 17 rfl rfl)
theorem dX7_init_65 : decode cX7_init 65 = .ok (.newarray .boolean, 2) := dk_188_4 (dk_at dksX7_init_2 19 rfl rfl)
theorem dX7_init_67 : decode cX7_init 67 = .ok (.putfield 32, 3) := dk_181 0 32 (dk_at dksX7_init_2 21 rfl rfl)
theorem dX7_init_70 : decode cX7_init 70 = .ok (.aload_n 0, 1) := dk_42 (dk_at dksX7_init_3 0 rfl rfl)
theorem dX7_init_71 : decode cX7_init 71 = .ok (.bipush 126, 2) := dk_16 126 (dk_at dksX7_init_3 1 rfl rfl)
theorem dX7_init_73 : decode cX7_init 73 = .ok (.newarray .int, 2) := dk_188_10 (dk_at dksX7_init_3 3 rfl rfl)
theorem dX7_init_75 : decode cX7_init 75 = .ok (.putfield 36, 3) := dk_181 0 36 (dk_at dksX7_init_3 5 rfl rfl)
theorem dX7_init_78 : decode cX7_init 78 = .ok (.aload_n 0, 1) := dk_42 (dk_at dksX7_init_3 8 rfl rfl)
theorem dX7_init_79 : decode cX7_init 79 = .ok (.sipush 576, 3) := dk_17 2 64 (dk_at dksX7_init_3 9 rfl rfl)
theorem dX7_init_82 : decode cX7_init 82 = .ok (.newarray .int, 2) := dk_188_10 (dk_at dksX7_init_3 12 rfl rfl)
theorem dX7_init_84 : decode cX7_init 84 = .ok (.putfield 39, 3) := dk_181 0 39 (dk_at dksX7_init_3 14 rfl rfl)
theorem dX7_init_87 : decode cX7_init 87 = .ok (.aload_n 0, 1) := dk_42 (dk_at dksX7_init_3 17 rfl rfl)
theorem dX7_init_88 : decode cX7_init 88 = .ok (.bipush 8, 2) := dk_16 8 (dk_at dksX7_init_3 18 rfl rfl)
theorem dX7_init_90 : decode cX7_init 90 = .ok (.newarray .int, 2) := dk_188_10 (dk_at dksX7_init_3 20 rfl rfl)
theorem dX7_init_92 : decode cX7_init 92 = .ok (.putfield 42, 3) := dk_181 0 42 (dk_at dksX7_init_4 0 rfl rfl)
theorem dX7_init_95 : decode cX7_init 95 = .ok (.aload_n 0, 1) := dk_42 (dk_at dksX7_init_4 3 rfl rfl)
theorem dX7_init_96 : decode cX7_init 96 = .ok (.getfield 7, 3) := dk_180 0 7 (dk_at dksX7_init_4 4 rfl rfl)
theorem dX7_init_99 : decode cX7_init 99 = .ok (.iconst 1, 1) := dk_4 (dk_at dksX7_init_4 7 rfl rfl)
theorem dX7_init_100 : decode cX7_init 100 = .ok (.iconst (-1), 1) := dk_2 (dk_at dksX7_init_4 8 rfl rfl)
theorem dX7_init_101 : decode cX7_init 101 = .ok (.iastore, 1) := dk_79 (dk_at dksX7_init_4 9 rfl rfl)
theorem dX7_init_102 : decode cX7_init 102 = .ok (.aload_n 0, 1) := dk_42 (dk_at dksX7_init_4 10 rfl rfl)
theorem dX7_init_103 : decode cX7_init 103 = .ok (.getfield 7, 3) := dk_180 0 7 (dk_at dksX7_init_4 11 rfl rfl)
theorem dX7_init_106 : decode cX7_init 106 = .ok (.bipush 7, 2) := dk_16 7 (dk_at dksX7_init_4 14 rfl rfl)
theorem dX7_init_108 : decode cX7_init 108 = .ok (.iconst 1, 1) := dk_4 (dk_at dksX7_init_4 16 rfl rfl)
theorem dX7_init_109 : decode cX7_init 109 = .ok (.iastore, 1) := dk_79 (dk_at dksX7_init_4 17 rfl rfl)
theorem dX7_init_110 : decode cX7_init 110 = .ok (.aload_n 0, 1) := dk_42 (dk_at dksX7_init_4 18 rfl rfl)
theorem dX7_init_111 : decode cX7_init 111 = .ok (.getfield 7, 3) := dk_180 0 7 (dk_at dksX7_init_4 19 rfl rfl)
theorem dX7_init_114 : decode cX7_init 114 = .ok (.bipush 10, 2) := dk_16 10 (dk_at dksX7_init_4 22 rfl rfl)
theorem dX7_init_116 : decode cX7_init 116 = .ok (.iconst 1, 1) := dk_4 (dk_at dksX7_init_5 0 rfl rfl)
theorem dX7_init_117 : decode cX7_init 117 = .ok (.iastore, 1) := dk_79 (dk_at dksX7_init_5 1 rfl rfl)
theorem dX7_init_118 : decode cX7_init 118 = .ok (.iconst 0, 1) := dk_3 (dk_at dksX7_init_5 2 rfl rfl)
theorem dX7_init_119 : decode cX7_init 119 = .ok (.istore_n 1, 1) := dk_60 (dk_at dksX7_init_5 3 rfl rfl)
theorem dX7_init_120 : decode cX7_init 120 = .ok (.iload_n 1, 1) := dk_27 (dk_at dksX7_init_5 4 rfl rfl)
theorem dX7_init_121 : decode cX7_init 121 = .ok (.iconst 4, 1) := dk_7 (dk_at dksX7_init_5 5 rfl rfl)
theorem dX7_init_122 : decode cX7_init 122 = .ok (.if_icmp .ge 19, 3) := dk_162 0 19 (dk_at dksX7_init_5 6 rfl rfl)
theorem dX7_init_125 : decode cX7_init 125 = .ok (.aload_n 0, 1) := dk_42 (dk_at dksX7_init_5 9 rfl rfl)
theorem dX7_init_126 : decode cX7_init 126 = .ok (.getfield 7, 3) := dk_180 0 7 (dk_at dksX7_init_5 10 rfl rfl)
theorem dX7_init_129 : decode cX7_init 129 = .ok (.bipush 11, 2) := dk_16 11 (dk_at dksX7_init_5 13 rfl rfl)
theorem dX7_init_131 : decode cX7_init 131 = .ok (.iload_n 1, 1) := dk_27 (dk_at dksX7_init_5 15 rfl rfl)
theorem dX7_init_132 : decode cX7_init 132 = .ok (.iadd, 1) := dk_96 (dk_at dksX7_init_5 16 rfl rfl)
theorem dX7_init_133 : decode cX7_init 133 = .ok (.iconst 2, 1) := dk_5 (dk_at dksX7_init_5 17 rfl rfl)
theorem dX7_init_134 : decode cX7_init 134 = .ok (.iastore, 1) := dk_79 (dk_at dksX7_init_5 18 rfl rfl)
theorem dX7_init_135 : decode cX7_init 135 = .ok (.iinc 1 1, 3) := dk_132 1 1 (dk_at dksX7_init_5 19 rfl rfl)
theorem dX7_init_138 : decode cX7_init 138 = .ok (.goto (-18), 3) := dk_167 255 238 (dk_at dksX7_init_6 0 rfl rfl)
theorem dX7_init_141 : decode cX7_init 141 = .ok (.return_, 1) := dk_177 (dk_at dksX7_init_6 3 rfl rfl)
abbrev cX7_thrown : ByteArray := prog_20_method_2_code
def yX7_thrown : MethodName := ⟨RX7, "thrown", "()I"⟩
theorem dX7_thrown_0 : decode cX7_thrown 0 = .ok (.aload_n 0, 1) := by decide +kernel
theorem dX7_thrown_1 : decode cX7_thrown 1 = .ok (.getfield 45, 3) := by decide +kernel
theorem dX7_thrown_4 : decode cX7_thrown 4 = .ok (.ireturn, 1) := by decide +kernel
abbrev cX7_feed : ByteArray := prog_20_method_19_code
def yX7_feed : MethodName := ⟨RX7, "feed", "(IIIII)I"⟩
def dkwX7_feed_5 : List UInt8 := [167, 255, 162, 42, 180, 0, 70, 172]
abbrev dktX7_feed_5 : List UInt8 := dkwX7_feed_5 ++ []
def dkwX7_feed_4 : List UInt8 := [112, 104, 100, 124, 17, 0, 255, 126, 79, 42, 89, 180, 0, 70, 4, 96, 181, 0, 70, 132, 6, 1]
abbrev dktX7_feed_4 : List UInt8 := dkwX7_feed_4 ++ dktX7_feed_5
def dkwX7_feed_3 : List UInt8 := [167, 0, 5, 21, 5, 54, 7, 42, 180, 0, 22, 42, 180, 0, 70, 21, 7, 16, 24, 16, 8, 21, 6, 7]
abbrev dktX7_feed_3 : List UInt8 := dkwX7_feed_3 ++ dktX7_feed_4
def dkwX7_feed_2 : List UInt8 := [28, 167, 0, 28, 21, 6, 16, 12, 162, 0, 7, 29, 167, 0, 17, 21, 6, 16, 16, 162, 0, 8, 21, 4]
abbrev dktX7_feed_2 : List UInt8 := dkwX7_feed_2 ++ dktX7_feed_3
def dkwX7_feed_1 : List UInt8 := [21, 6, 16, 20, 162, 0, 93, 21, 6, 7, 162, 0, 7, 27, 167, 0, 39, 21, 6, 16, 8, 162, 0, 7]
abbrev dktX7_feed_1 : List UInt8 := dkwX7_feed_1 ++ dktX7_feed_2
def dkwX7_feed_0 : List UInt8 := [42, 3, 181, 0, 45, 42, 180, 0, 70, 16, 20, 96, 17, 1, 144, 164, 0, 5, 2, 172, 3, 54, 6]
abbrev dktX7_feed_0 : List UInt8 := dkwX7_feed_0 ++ dktX7_feed_1
theorem dksX7_feed_0 : cX7_feed.data.toList.drop 0 = dktX7_feed_0 := by decide +kernel
theorem dksX7_feed_1 : cX7_feed.data.toList.drop 23 = dktX7_feed_1 := dk_seg dksX7_feed_0 23 rfl rfl
theorem dksX7_feed_2 : cX7_feed.data.toList.drop 47 = dktX7_feed_2 := dk_seg dksX7_feed_1 24 rfl rfl
theorem dksX7_feed_3 : cX7_feed.data.toList.drop 71 = dktX7_feed_3 := dk_seg dksX7_feed_2 24 rfl rfl
theorem dksX7_feed_4 : cX7_feed.data.toList.drop 95 = dktX7_feed_4 := dk_seg dksX7_feed_3 24 rfl rfl
theorem dksX7_feed_5 : cX7_feed.data.toList.drop 117 = dktX7_feed_5 := dk_seg dksX7_feed_4 22 rfl rfl
theorem dX7_feed_0 : decode cX7_feed 0 = .ok (.aload_n 0, 1) := dk_42 (dk_at dksX7_feed_0 0 rfl rfl)
theorem dX7_feed_1 : decode cX7_feed 1 = .ok (.iconst 0, 1) := dk_3 (dk_at dksX7_feed_0 1 rfl rfl)
theorem dX7_feed_2 : decode cX7_feed 2 = .ok (.putfield 45, 3) := dk_181 0 45 (dk_at dksX7_feed_0 2 rfl rfl)
theorem dX7_feed_5 : decode cX7_feed 5 = .ok (.aload_n 0, 1) := dk_42 (dk_at dksX7_feed_0 5 rfl rfl)
theorem dX7_feed_6 : decode cX7_feed 6 = .ok (.getfield 70, 3) := dk_180 0 70 (dk_at dksX7_feed_0 6 rfl rfl)
theorem dX7_feed_9 : decode cX7_feed 9 = .ok (.bipush 20, 2) := dk_16 20 (dk_at dksX7_feed_0 9 rfl rfl)
theorem dX7_feed_11 : decode cX7_feed 11 = .ok (.iadd, 1) := dk_96 (dk_at dksX7_feed_0 11 rfl rfl)
theorem dX7_feed_12 : decode cX7_feed 12 = .ok (.sipush 400, 3) := dk_17 1 144 (dk_at dksX7_feed_0 12 rfl rfl)
theorem dX7_feed_15 : decode cX7_feed 15 = .ok (.if_icmp .le 5, 3) := dk_164 0 5 (dk_at dksX7_feed_0 15 rfl rfl)
theorem dX7_feed_18 : decode cX7_feed 18 = .ok (.iconst (-1), 1) := dk_2 (dk_at dksX7_feed_0 18 rfl rfl)
theorem dX7_feed_19 : decode cX7_feed 19 = .ok (.ireturn, 1) := dk_172 (dk_at dksX7_feed_0 19 rfl rfl)
theorem dX7_feed_20 : decode cX7_feed 20 = .ok (.iconst 0, 1) := dk_3 (dk_at dksX7_feed_0 20 rfl rfl)
theorem dX7_feed_21 : decode cX7_feed 21 = .ok (.istore 6, 2) := dk_54 6 (dk_at dksX7_feed_0 21 rfl rfl)
theorem dX7_feed_23 : decode cX7_feed 23 = .ok (.iload 6, 2) := dk_21 6 (dk_at dksX7_feed_1 0 rfl rfl)
theorem dX7_feed_25 : decode cX7_feed 25 = .ok (.bipush 20, 2) := dk_16 20 (dk_at dksX7_feed_1 2 rfl rfl)
theorem dX7_feed_27 : decode cX7_feed 27 = .ok (.if_icmp .ge 93, 3) := dk_162 0 93 (dk_at dksX7_feed_1 4 rfl rfl)
theorem dX7_feed_30 : decode cX7_feed 30 = .ok (.iload 6, 2) := dk_21 6 (dk_at dksX7_feed_1 7 rfl rfl)
theorem dX7_feed_32 : decode cX7_feed 32 = .ok (.iconst 4, 1) := dk_7 (dk_at dksX7_feed_1 9 rfl rfl)
theorem dX7_feed_33 : decode cX7_feed 33 = .ok (.if_icmp .ge 7, 3) := dk_162 0 7 (dk_at dksX7_feed_1 10 rfl rfl)
theorem dX7_feed_36 : decode cX7_feed 36 = .ok (.iload_n 1, 1) := dk_27 (dk_at dksX7_feed_1 13 rfl rfl)
theorem dX7_feed_37 : decode cX7_feed 37 = .ok (.goto 39, 3) := dk_167 0 39 (dk_at dksX7_feed_1 14 rfl rfl)
theorem dX7_feed_40 : decode cX7_feed 40 = .ok (.iload 6, 2) := dk_21 6 (dk_at dksX7_feed_1 17 rfl rfl)
theorem dX7_feed_42 : decode cX7_feed 42 = .ok (.bipush 8, 2) := dk_16 8 (dk_at dksX7_feed_1 19 rfl rfl)
theorem dX7_feed_44 : decode cX7_feed 44 = .ok (.if_icmp .ge 7, 3) := dk_162 0 7 (dk_at dksX7_feed_1 21 rfl rfl)
theorem dX7_feed_47 : decode cX7_feed 47 = .ok (.iload_n 2, 1) := dk_28 (dk_at dksX7_feed_2 0 rfl rfl)
theorem dX7_feed_48 : decode cX7_feed 48 = .ok (.goto 28, 3) := dk_167 0 28 (dk_at dksX7_feed_2 1 rfl rfl)
theorem dX7_feed_51 : decode cX7_feed 51 = .ok (.iload 6, 2) := dk_21 6 (dk_at dksX7_feed_2 4 rfl rfl)
theorem dX7_feed_53 : decode cX7_feed 53 = .ok (.bipush 12, 2) := dk_16 12 (dk_at dksX7_feed_2 6 rfl rfl)
theorem dX7_feed_55 : decode cX7_feed 55 = .ok (.if_icmp .ge 7, 3) := dk_162 0 7 (dk_at dksX7_feed_2 8 rfl rfl)
theorem dX7_feed_58 : decode cX7_feed 58 = .ok (.iload_n 3, 1) := dk_29 (dk_at dksX7_feed_2 11 rfl rfl)
theorem dX7_feed_59 : decode cX7_feed 59 = .ok (.goto 17, 3) := dk_167 0 17 (dk_at dksX7_feed_2 12 rfl rfl)
theorem dX7_feed_62 : decode cX7_feed 62 = .ok (.iload 6, 2) := dk_21 6 (dk_at dksX7_feed_2 15 rfl rfl)
theorem dX7_feed_64 : decode cX7_feed 64 = .ok (.bipush 16, 2) := dk_16 16 (dk_at dksX7_feed_2 17 rfl rfl)
theorem dX7_feed_66 : decode cX7_feed 66 = .ok (.if_icmp .ge 8, 3) := dk_162 0 8 (dk_at dksX7_feed_2 19 rfl rfl)
theorem dX7_feed_69 : decode cX7_feed 69 = .ok (.iload 4, 2) := dk_21 4 (dk_at dksX7_feed_2 22 rfl rfl)
theorem dX7_feed_71 : decode cX7_feed 71 = .ok (.goto 5, 3) := dk_167 0 5 (dk_at dksX7_feed_3 0 rfl rfl)
theorem dX7_feed_74 : decode cX7_feed 74 = .ok (.iload 5, 2) := dk_21 5 (dk_at dksX7_feed_3 3 rfl rfl)
theorem dX7_feed_76 : decode cX7_feed 76 = .ok (.istore 7, 2) := dk_54 7 (dk_at dksX7_feed_3 5 rfl rfl)
theorem dX7_feed_78 : decode cX7_feed 78 = .ok (.aload_n 0, 1) := dk_42 (dk_at dksX7_feed_3 7 rfl rfl)
theorem dX7_feed_79 : decode cX7_feed 79 = .ok (.getfield 22, 3) := dk_180 0 22 (dk_at dksX7_feed_3 8 rfl rfl)
theorem dX7_feed_82 : decode cX7_feed 82 = .ok (.aload_n 0, 1) := dk_42 (dk_at dksX7_feed_3 11 rfl rfl)
theorem dX7_feed_83 : decode cX7_feed 83 = .ok (.getfield 70, 3) := dk_180 0 70 (dk_at dksX7_feed_3 12 rfl rfl)
theorem dX7_feed_86 : decode cX7_feed 86 = .ok (.iload 7, 2) := dk_21 7 (dk_at dksX7_feed_3 15 rfl rfl)
theorem dX7_feed_88 : decode cX7_feed 88 = .ok (.bipush 24, 2) := dk_16 24 (dk_at dksX7_feed_3 17 rfl rfl)
theorem dX7_feed_90 : decode cX7_feed 90 = .ok (.bipush 8, 2) := dk_16 8 (dk_at dksX7_feed_3 19 rfl rfl)
theorem dX7_feed_92 : decode cX7_feed 92 = .ok (.iload 6, 2) := dk_21 6 (dk_at dksX7_feed_3 21 rfl rfl)
theorem dX7_feed_94 : decode cX7_feed 94 = .ok (.iconst 4, 1) := dk_7 (dk_at dksX7_feed_3 23 rfl rfl)
theorem dX7_feed_95 : decode cX7_feed 95 = .ok (.irem, 1) := dk_112 (dk_at dksX7_feed_4 0 rfl rfl)
theorem dX7_feed_96 : decode cX7_feed 96 = .ok (.imul, 1) := dk_104 (dk_at dksX7_feed_4 1 rfl rfl)
theorem dX7_feed_97 : decode cX7_feed 97 = .ok (.isub, 1) := dk_100 (dk_at dksX7_feed_4 2 rfl rfl)
theorem dX7_feed_98 : decode cX7_feed 98 = .ok (.iushr, 1) := dk_124 (dk_at dksX7_feed_4 3 rfl rfl)
theorem dX7_feed_99 : decode cX7_feed 99 = .ok (.sipush 255, 3) := dk_17 0 255 (dk_at dksX7_feed_4 4 rfl rfl)
theorem dX7_feed_102 : decode cX7_feed 102 = .ok (.iand, 1) := dk_126 (dk_at dksX7_feed_4 7 rfl rfl)
theorem dX7_feed_103 : decode cX7_feed 103 = .ok (.iastore, 1) := dk_79 (dk_at dksX7_feed_4 8 rfl rfl)
theorem dX7_feed_104 : decode cX7_feed 104 = .ok (.aload_n 0, 1) := dk_42 (dk_at dksX7_feed_4 9 rfl rfl)
theorem dX7_feed_105 : decode cX7_feed 105 = .ok (.dup, 1) := dk_89 (dk_at dksX7_feed_4 10 rfl rfl)
theorem dX7_feed_106 : decode cX7_feed 106 = .ok (.getfield 70, 3) := dk_180 0 70 (dk_at dksX7_feed_4 11 rfl rfl)
theorem dX7_feed_109 : decode cX7_feed 109 = .ok (.iconst 1, 1) := dk_4 (dk_at dksX7_feed_4 14 rfl rfl)
theorem dX7_feed_110 : decode cX7_feed 110 = .ok (.iadd, 1) := dk_96 (dk_at dksX7_feed_4 15 rfl rfl)
theorem dX7_feed_111 : decode cX7_feed 111 = .ok (.putfield 70, 3) := dk_181 0 70 (dk_at dksX7_feed_4 16 rfl rfl)
theorem dX7_feed_114 : decode cX7_feed 114 = .ok (.iinc 6 1, 3) := dk_132 6 1 (dk_at dksX7_feed_4 19 rfl rfl)
theorem dX7_feed_117 : decode cX7_feed 117 = .ok (.goto (-94), 3) := dk_167 255 162 (dk_at dksX7_feed_5 0 rfl rfl)
theorem dX7_feed_120 : decode cX7_feed 120 = .ok (.aload_n 0, 1) := dk_42 (dk_at dksX7_feed_5 3 rfl rfl)
theorem dX7_feed_121 : decode cX7_feed 121 = .ok (.getfield 70, 3) := dk_180 0 70 (dk_at dksX7_feed_5 4 rfl rfl)
theorem dX7_feed_124 : decode cX7_feed 124 = .ok (.ireturn, 1) := dk_172 (dk_at dksX7_feed_5 7 rfl rfl)
abbrev cX7_end : ByteArray := prog_20_method_20_code
def yX7_end : MethodName := ⟨RX7, "end", "(I)Z"⟩
def dkwX7_end_1 : List UInt8 := [4, 172]
abbrev dktX7_end_1 : List UInt8 := dkwX7_end_1 ++ []
def dkwX7_end_0 : List UInt8 := [42, 3, 181, 0, 45, 27, 3, 42, 180, 0, 70, 184, 0, 48, 154, 0, 5, 3, 172, 42, 27, 181, 0, 70]
abbrev dktX7_end_0 : List UInt8 := dkwX7_end_0 ++ dktX7_end_1
theorem dksX7_end_0 : cX7_end.data.toList.drop 0 = dktX7_end_0 := by decide +kernel
theorem dksX7_end_1 : cX7_end.data.toList.drop 24 = dktX7_end_1 := dk_seg dksX7_end_0 24 rfl rfl
theorem dX7_end_0 : decode cX7_end 0 = .ok (.aload_n 0, 1) := dk_42 (dk_at dksX7_end_0 0 rfl rfl)
theorem dX7_end_1 : decode cX7_end 1 = .ok (.iconst 0, 1) := dk_3 (dk_at dksX7_end_0 1 rfl rfl)
theorem dX7_end_2 : decode cX7_end 2 = .ok (.putfield 45, 3) := dk_181 0 45 (dk_at dksX7_end_0 2 rfl rfl)
theorem dX7_end_5 : decode cX7_end 5 = .ok (.iload_n 1, 1) := dk_27 (dk_at dksX7_end_0 5 rfl rfl)
theorem dX7_end_6 : decode cX7_end 6 = .ok (.iconst 0, 1) := dk_3 (dk_at dksX7_end_0 6 rfl rfl)
theorem dX7_end_7 : decode cX7_end 7 = .ok (.aload_n 0, 1) := dk_42 (dk_at dksX7_end_0 7 rfl rfl)
theorem dX7_end_8 : decode cX7_end 8 = .ok (.getfield 70, 3) := dk_180 0 70 (dk_at dksX7_end_0 8 rfl rfl)
theorem dX7_end_11 : decode cX7_end 11 = .ok (.invokestatic 48, 3) := dk_184 0 48 (dk_at dksX7_end_0 11 rfl rfl)
theorem dX7_end_14 : decode cX7_end 14 = .ok (.ifCond .ne 5, 3) := dk_154 0 5 (dk_at dksX7_end_0 14 rfl rfl)
theorem dX7_end_17 : decode cX7_end 17 = .ok (.iconst 0, 1) := dk_3 (dk_at dksX7_end_0 17 rfl rfl)
theorem dX7_end_18 : decode cX7_end 18 = .ok (.ireturn, 1) := dk_172 (dk_at dksX7_end_0 18 rfl rfl)
theorem dX7_end_19 : decode cX7_end 19 = .ok (.aload_n 0, 1) := dk_42 (dk_at dksX7_end_0 19 rfl rfl)
theorem dX7_end_20 : decode cX7_end 20 = .ok (.iload_n 1, 1) := dk_27 (dk_at dksX7_end_0 20 rfl rfl)
theorem dX7_end_21 : decode cX7_end 21 = .ok (.putfield 70, 3) := dk_181 0 70 (dk_at dksX7_end_0 21 rfl rfl)
theorem dX7_end_24 : decode cX7_end 24 = .ok (.iconst 1, 1) := dk_4 (dk_at dksX7_end_1 0 rfl rfl)
theorem dX7_end_25 : decode cX7_end 25 = .ok (.ireturn, 1) := dk_172 (dk_at dksX7_end_1 1 rfl rfl)
abbrev cX7_isIn : ByteArray := prog_20_method_3_code
def yX7_isIn : MethodName := ⟨RX7, "isIn", "(III)Z"⟩
def dkwX7_isIn_0 : List UInt8 := [26, 27, 161, 0, 12, 26, 28, 163, 0, 7, 4, 167, 0, 4, 3, 172]
abbrev dktX7_isIn_0 : List UInt8 := dkwX7_isIn_0 ++ []
theorem dksX7_isIn_0 : cX7_isIn.data.toList.drop 0 = dktX7_isIn_0 := by decide +kernel
theorem dX7_isIn_0 : decode cX7_isIn 0 = .ok (.iload_n 0, 1) := dk_26 (dk_at dksX7_isIn_0 0 rfl rfl)
theorem dX7_isIn_1 : decode cX7_isIn 1 = .ok (.iload_n 1, 1) := dk_27 (dk_at dksX7_isIn_0 1 rfl rfl)
theorem dX7_isIn_2 : decode cX7_isIn 2 = .ok (.if_icmp .lt 12, 3) := dk_161 0 12 (dk_at dksX7_isIn_0 2 rfl rfl)
theorem dX7_isIn_5 : decode cX7_isIn 5 = .ok (.iload_n 0, 1) := dk_26 (dk_at dksX7_isIn_0 5 rfl rfl)
theorem dX7_isIn_6 : decode cX7_isIn 6 = .ok (.iload_n 2, 1) := dk_28 (dk_at dksX7_isIn_0 6 rfl rfl)
theorem dX7_isIn_7 : decode cX7_isIn 7 = .ok (.if_icmp .gt 7, 3) := dk_163 0 7 (dk_at dksX7_isIn_0 7 rfl rfl)
theorem dX7_isIn_10 : decode cX7_isIn 10 = .ok (.iconst 1, 1) := dk_4 (dk_at dksX7_isIn_0 10 rfl rfl)
theorem dX7_isIn_11 : decode cX7_isIn 11 = .ok (.goto 4, 3) := dk_167 0 4 (dk_at dksX7_isIn_0 11 rfl rfl)
theorem dX7_isIn_14 : decode cX7_isIn 14 = .ok (.iconst 0, 1) := dk_3 (dk_at dksX7_isIn_0 14 rfl rfl)
theorem dX7_isIn_15 : decode cX7_isIn 15 = .ok (.ireturn, 1) := dk_172 (dk_at dksX7_isIn_0 15 rfl rfl)
abbrev cX7_port : ByteArray := prog_20_method_42_code
def yX7_port : MethodName := ⟨RX7, "port", "()I"⟩
def dkwX7_port_3 : List UInt8 := [181, 0, 212, 42, 180, 0, 7, 3, 46, 172]
abbrev dktX7_port_3 : List UInt8 := dkwX7_port_3 ++ []
def dkwX7_port_2 : List UInt8 := [180, 0, 45, 158, 0, 9, 42, 182, 0, 209, 3, 172, 42, 180, 0, 7, 3, 92, 46, 4, 96, 79, 42, 3]
abbrev dktX7_port_2 : List UInt8 := dkwX7_port_2 ++ dktX7_port_3
def dkwX7_port_1 : List UInt8 := [167, 0, 19, 42, 180, 0, 7, 3, 46, 16, 12, 160, 0, 7, 5, 167, 0, 4, 3, 181, 0, 45, 42]
abbrev dktX7_port_1 : List UInt8 := dkwX7_port_1 ++ dktX7_port_2
def dkwX7_port_0 : List UInt8 := [42, 182, 0, 199, 42, 182, 0, 202, 42, 3, 182, 0, 205, 60, 42, 42, 180, 0, 25, 2, 159, 0, 7, 4]
abbrev dktX7_port_0 : List UInt8 := dkwX7_port_0 ++ dktX7_port_1
theorem dksX7_port_0 : cX7_port.data.toList.drop 0 = dktX7_port_0 := by decide +kernel
theorem dksX7_port_1 : cX7_port.data.toList.drop 24 = dktX7_port_1 := dk_seg dksX7_port_0 24 rfl rfl
theorem dksX7_port_2 : cX7_port.data.toList.drop 47 = dktX7_port_2 := dk_seg dksX7_port_1 23 rfl rfl
theorem dksX7_port_3 : cX7_port.data.toList.drop 71 = dktX7_port_3 := dk_seg dksX7_port_2 24 rfl rfl
theorem dX7_port_0 : decode cX7_port 0 = .ok (.aload_n 0, 1) := dk_42 (dk_at dksX7_port_0 0 rfl rfl)
theorem dX7_port_1 : decode cX7_port 1 = .ok (.invokevirtual 199, 3) := dk_182 0 199 (dk_at dksX7_port_0 1 rfl rfl)
theorem dX7_port_4 : decode cX7_port 4 = .ok (.aload_n 0, 1) := dk_42 (dk_at dksX7_port_0 4 rfl rfl)
theorem dX7_port_5 : decode cX7_port 5 = .ok (.invokevirtual 202, 3) := dk_182 0 202 (dk_at dksX7_port_0 5 rfl rfl)
theorem dX7_port_8 : decode cX7_port 8 = .ok (.aload_n 0, 1) := dk_42 (dk_at dksX7_port_0 8 rfl rfl)
theorem dX7_port_9 : decode cX7_port 9 = .ok (.iconst 0, 1) := dk_3 (dk_at dksX7_port_0 9 rfl rfl)
theorem dX7_port_10 : decode cX7_port 10 = .ok (.invokevirtual 205, 3) := dk_182 0 205 (dk_at dksX7_port_0 10 rfl rfl)
theorem dX7_port_13 : decode cX7_port 13 = .ok (.istore_n 1, 1) := dk_60 (dk_at dksX7_port_0 13 rfl rfl)
theorem dX7_port_14 : decode cX7_port 14 = .ok (.aload_n 0, 1) := dk_42 (dk_at dksX7_port_0 14 rfl rfl)
theorem dX7_port_15 : decode cX7_port 15 = .ok (.aload_n 0, 1) := dk_42 (dk_at dksX7_port_0 15 rfl rfl)
theorem dX7_port_16 : decode cX7_port 16 = .ok (.getfield 25, 3) := dk_180 0 25 (dk_at dksX7_port_0 16 rfl rfl)
theorem dX7_port_19 : decode cX7_port 19 = .ok (.iconst (-1), 1) := dk_2 (dk_at dksX7_port_0 19 rfl rfl)
theorem dX7_port_20 : decode cX7_port 20 = .ok (.if_icmp .eq 7, 3) := dk_159 0 7 (dk_at dksX7_port_0 20 rfl rfl)
theorem dX7_port_23 : decode cX7_port 23 = .ok (.iconst 1, 1) := dk_4 (dk_at dksX7_port_0 23 rfl rfl)
theorem dX7_port_24 : decode cX7_port 24 = .ok (.goto 19, 3) := dk_167 0 19 (dk_at dksX7_port_1 0 rfl rfl)
theorem dX7_port_27 : decode cX7_port 27 = .ok (.aload_n 0, 1) := dk_42 (dk_at dksX7_port_1 3 rfl rfl)
theorem dX7_port_28 : decode cX7_port 28 = .ok (.getfield 7, 3) := dk_180 0 7 (dk_at dksX7_port_1 4 rfl rfl)
theorem dX7_port_31 : decode cX7_port 31 = .ok (.iconst 0, 1) := dk_3 (dk_at dksX7_port_1 7 rfl rfl)
theorem dX7_port_32 : decode cX7_port 32 = .ok (.iaload, 1) := dk_46 (dk_at dksX7_port_1 8 rfl rfl)
theorem dX7_port_33 : decode cX7_port 33 = .ok (.bipush 12, 2) := dk_16 12 (dk_at dksX7_port_1 9 rfl rfl)
theorem dX7_port_35 : decode cX7_port 35 = .ok (.if_icmp .ne 7, 3) := dk_160 0 7 (dk_at dksX7_port_1 11 rfl rfl)
theorem dX7_port_38 : decode cX7_port 38 = .ok (.iconst 2, 1) := dk_5 (dk_at dksX7_port_1 14 rfl rfl)
theorem dX7_port_39 : decode cX7_port 39 = .ok (.goto 4, 3) := dk_167 0 4 (dk_at dksX7_port_1 15 rfl rfl)
theorem dX7_port_42 : decode cX7_port 42 = .ok (.iconst 0, 1) := dk_3 (dk_at dksX7_port_1 18 rfl rfl)
theorem dX7_port_43 : decode cX7_port 43 = .ok (.putfield 45, 3) := dk_181 0 45 (dk_at dksX7_port_1 19 rfl rfl)
theorem dX7_port_46 : decode cX7_port 46 = .ok (.aload_n 0, 1) := dk_42 (dk_at dksX7_port_1 22 rfl rfl)
theorem dX7_port_47 : decode cX7_port 47 = .ok (.getfield 45, 3) := dk_180 0 45 (dk_at dksX7_port_2 0 rfl rfl)
theorem dX7_port_50 : decode cX7_port 50 = .ok (.ifCond .le 9, 3) := dk_158 0 9 (dk_at dksX7_port_2 3 rfl rfl)
theorem dX7_port_53 : decode cX7_port 53 = .ok (.aload_n 0, 1) := dk_42 (dk_at dksX7_port_2 6 rfl rfl)
theorem dX7_port_54 : decode cX7_port 54 = .ok (.invokevirtual 209, 3) := dk_182 0 209 (dk_at dksX7_port_2 7 rfl rfl)
theorem dX7_port_57 : decode cX7_port 57 = .ok (.iconst 0, 1) := dk_3 (dk_at dksX7_port_2 10 rfl rfl)
theorem dX7_port_58 : decode cX7_port 58 = .ok (.ireturn, 1) := dk_172 (dk_at dksX7_port_2 11 rfl rfl)
theorem dX7_port_59 : decode cX7_port 59 = .ok (.aload_n 0, 1) := dk_42 (dk_at dksX7_port_2 12 rfl rfl)
theorem dX7_port_60 : decode cX7_port 60 = .ok (.getfield 7, 3) := dk_180 0 7 (dk_at dksX7_port_2 13 rfl rfl)
theorem dX7_port_63 : decode cX7_port 63 = .ok (.iconst 0, 1) := dk_3 (dk_at dksX7_port_2 16 rfl rfl)
theorem dX7_port_64 : decode cX7_port 64 = .ok (.dup2, 1) := dk_92 (dk_at dksX7_port_2 17 rfl rfl)
theorem dX7_port_65 : decode cX7_port 65 = .ok (.iaload, 1) := dk_46 (dk_at dksX7_port_2 18 rfl rfl)
theorem dX7_port_66 : decode cX7_port 66 = .ok (.iconst 1, 1) := dk_4 (dk_at dksX7_port_2 19 rfl rfl)
theorem dX7_port_67 : decode cX7_port 67 = .ok (.iadd, 1) := dk_96 (dk_at dksX7_port_2 20 rfl rfl)
theorem dX7_port_68 : decode cX7_port 68 = .ok (.iastore, 1) := dk_79 (dk_at dksX7_port_2 21 rfl rfl)
theorem dX7_port_69 : decode cX7_port 69 = .ok (.aload_n 0, 1) := dk_42 (dk_at dksX7_port_2 22 rfl rfl)
theorem dX7_port_70 : decode cX7_port 70 = .ok (.iconst 0, 1) := dk_3 (dk_at dksX7_port_2 23 rfl rfl)
theorem dX7_port_71 : decode cX7_port 71 = .ok (.putfield 212, 3) := dk_181 0 212 (dk_at dksX7_port_3 0 rfl rfl)
theorem dX7_port_74 : decode cX7_port 74 = .ok (.aload_n 0, 1) := dk_42 (dk_at dksX7_port_3 3 rfl rfl)
theorem dX7_port_75 : decode cX7_port 75 = .ok (.getfield 7, 3) := dk_180 0 7 (dk_at dksX7_port_3 4 rfl rfl)
theorem dX7_port_78 : decode cX7_port 78 = .ok (.iconst 0, 1) := dk_3 (dk_at dksX7_port_3 7 rfl rfl)
theorem dX7_port_79 : decode cX7_port 79 = .ok (.iaload, 1) := dk_46 (dk_at dksX7_port_3 8 rfl rfl)
theorem dX7_port_80 : decode cX7_port 80 = .ok (.ireturn, 1) := dk_172 (dk_at dksX7_port_3 9 rfl rfl)
abbrev cX7_putsAside : ByteArray := prog_20_method_40_code
def yX7_putsAside : MethodName := ⟨RX7, "putsAside", "()V"⟩
def dkwX7_putsAside_1 : List UInt8 := [167, 255, 234, 177]
abbrev dktX7_putsAside_1 : List UInt8 := dkwX7_putsAside_1 ++ []
def dkwX7_putsAside_0 : List UInt8 := [3, 60, 27, 17, 1, 125, 162, 0, 21, 42, 180, 0, 16, 27, 42, 180, 0, 7, 27, 46, 79, 132, 1, 1]
abbrev dktX7_putsAside_0 : List UInt8 := dkwX7_putsAside_0 ++ dktX7_putsAside_1
theorem dksX7_putsAside_0 : cX7_putsAside.data.toList.drop 0 = dktX7_putsAside_0 := by decide +kernel
theorem dksX7_putsAside_1 : cX7_putsAside.data.toList.drop 24 = dktX7_putsAside_1 := dk_seg dksX7_putsAside_0 24 rfl rfl
theorem dX7_putsAside_0 : decode cX7_putsAside 0 = .ok (.iconst 0, 1) := dk_3 (dk_at dksX7_putsAside_0 0 rfl rfl)
theorem dX7_putsAside_1 : decode cX7_putsAside 1 = .ok (.istore_n 1, 1) := dk_60 (dk_at dksX7_putsAside_0 1 rfl rfl)
theorem dX7_putsAside_2 : decode cX7_putsAside 2 = .ok (.iload_n 1, 1) := dk_27 (dk_at dksX7_putsAside_0 2 rfl rfl)
theorem dX7_putsAside_3 : decode cX7_putsAside 3 = .ok (.sipush 381, 3) := dk_17 1 125 (dk_at dksX7_putsAside_0 3 rfl rfl)
theorem dX7_putsAside_6 : decode cX7_putsAside 6 = .ok (.if_icmp .ge 21, 3) := dk_162 0 21 (dk_at dksX7_putsAside_0 6 rfl rfl)
theorem dX7_putsAside_9 : decode cX7_putsAside 9 = .ok (.aload_n 0, 1) := dk_42 (dk_at dksX7_putsAside_0 9 rfl rfl)
theorem dX7_putsAside_10 : decode cX7_putsAside 10 = .ok (.getfield 16, 3) := dk_180 0 16 (dk_at dksX7_putsAside_0 10 rfl rfl)
theorem dX7_putsAside_13 : decode cX7_putsAside 13 = .ok (.iload_n 1, 1) := dk_27 (dk_at dksX7_putsAside_0 13 rfl rfl)
theorem dX7_putsAside_14 : decode cX7_putsAside 14 = .ok (.aload_n 0, 1) := dk_42 (dk_at dksX7_putsAside_0 14 rfl rfl)
theorem dX7_putsAside_15 : decode cX7_putsAside 15 = .ok (.getfield 7, 3) := dk_180 0 7 (dk_at dksX7_putsAside_0 15 rfl rfl)
theorem dX7_putsAside_18 : decode cX7_putsAside 18 = .ok (.iload_n 1, 1) := dk_27 (dk_at dksX7_putsAside_0 18 rfl rfl)
theorem dX7_putsAside_19 : decode cX7_putsAside 19 = .ok (.iaload, 1) := dk_46 (dk_at dksX7_putsAside_0 19 rfl rfl)
theorem dX7_putsAside_20 : decode cX7_putsAside 20 = .ok (.iastore, 1) := dk_79 (dk_at dksX7_putsAside_0 20 rfl rfl)
theorem dX7_putsAside_21 : decode cX7_putsAside 21 = .ok (.iinc 1 1, 3) := dk_132 1 1 (dk_at dksX7_putsAside_0 21 rfl rfl)
theorem dX7_putsAside_24 : decode cX7_putsAside 24 = .ok (.goto (-22), 3) := dk_167 255 234 (dk_at dksX7_putsAside_1 0 rfl rfl)
theorem dX7_putsAside_27 : decode cX7_putsAside 27 = .ok (.return_, 1) := dk_177 (dk_at dksX7_putsAside_1 3 rfl rfl)
abbrev cX7_begins : ByteArray := prog_20_method_38_code
def yX7_begins : MethodName := ⟨RX7, "begins", "()V"⟩
def dkwX7_begins_1 : List UInt8 := [3, 181, 0, 76, 42, 3, 181, 0, 186, 177]
abbrev dktX7_begins_1 : List UInt8 := dkwX7_begins_1 ++ []
def dkwX7_begins_0 : List UInt8 := [42, 2, 181, 0, 25, 42, 2, 181, 0, 73, 42, 42, 180, 0, 70, 181, 0, 79, 42, 3, 181, 0, 70, 42]
abbrev dktX7_begins_0 : List UInt8 := dkwX7_begins_0 ++ dktX7_begins_1
theorem dksX7_begins_0 : cX7_begins.data.toList.drop 0 = dktX7_begins_0 := by decide +kernel
theorem dksX7_begins_1 : cX7_begins.data.toList.drop 24 = dktX7_begins_1 := dk_seg dksX7_begins_0 24 rfl rfl
theorem dX7_begins_0 : decode cX7_begins 0 = .ok (.aload_n 0, 1) := dk_42 (dk_at dksX7_begins_0 0 rfl rfl)
theorem dX7_begins_1 : decode cX7_begins 1 = .ok (.iconst (-1), 1) := dk_2 (dk_at dksX7_begins_0 1 rfl rfl)
theorem dX7_begins_2 : decode cX7_begins 2 = .ok (.putfield 25, 3) := dk_181 0 25 (dk_at dksX7_begins_0 2 rfl rfl)
theorem dX7_begins_5 : decode cX7_begins 5 = .ok (.aload_n 0, 1) := dk_42 (dk_at dksX7_begins_0 5 rfl rfl)
theorem dX7_begins_6 : decode cX7_begins 6 = .ok (.iconst (-1), 1) := dk_2 (dk_at dksX7_begins_0 6 rfl rfl)
theorem dX7_begins_7 : decode cX7_begins 7 = .ok (.putfield 73, 3) := dk_181 0 73 (dk_at dksX7_begins_0 7 rfl rfl)
theorem dX7_begins_10 : decode cX7_begins 10 = .ok (.aload_n 0, 1) := dk_42 (dk_at dksX7_begins_0 10 rfl rfl)
theorem dX7_begins_11 : decode cX7_begins 11 = .ok (.aload_n 0, 1) := dk_42 (dk_at dksX7_begins_0 11 rfl rfl)
theorem dX7_begins_12 : decode cX7_begins 12 = .ok (.getfield 70, 3) := dk_180 0 70 (dk_at dksX7_begins_0 12 rfl rfl)
theorem dX7_begins_15 : decode cX7_begins 15 = .ok (.putfield 79, 3) := dk_181 0 79 (dk_at dksX7_begins_0 15 rfl rfl)
theorem dX7_begins_18 : decode cX7_begins 18 = .ok (.aload_n 0, 1) := dk_42 (dk_at dksX7_begins_0 18 rfl rfl)
theorem dX7_begins_19 : decode cX7_begins 19 = .ok (.iconst 0, 1) := dk_3 (dk_at dksX7_begins_0 19 rfl rfl)
theorem dX7_begins_20 : decode cX7_begins 20 = .ok (.putfield 70, 3) := dk_181 0 70 (dk_at dksX7_begins_0 20 rfl rfl)
theorem dX7_begins_23 : decode cX7_begins 23 = .ok (.aload_n 0, 1) := dk_42 (dk_at dksX7_begins_0 23 rfl rfl)
theorem dX7_begins_24 : decode cX7_begins 24 = .ok (.iconst 0, 1) := dk_3 (dk_at dksX7_begins_1 0 rfl rfl)
theorem dX7_begins_25 : decode cX7_begins 25 = .ok (.putfield 76, 3) := dk_181 0 76 (dk_at dksX7_begins_1 1 rfl rfl)
theorem dX7_begins_28 : decode cX7_begins 28 = .ok (.aload_n 0, 1) := dk_42 (dk_at dksX7_begins_1 4 rfl rfl)
theorem dX7_begins_29 : decode cX7_begins 29 = .ok (.iconst 0, 1) := dk_3 (dk_at dksX7_begins_1 5 rfl rfl)
theorem dX7_begins_30 : decode cX7_begins 30 = .ok (.putfield 186, 3) := dk_181 0 186 (dk_at dksX7_begins_1 6 rfl rfl)
theorem dX7_begins_33 : decode cX7_begins 33 = .ok (.return_, 1) := dk_177 (dk_at dksX7_begins_1 9 rfl rfl)
abbrev cX7_read : ByteArray := prog_20_method_39_code
def yX7_read : MethodName := ⟨RX7, "read", "(Z)I"⟩
def dkwX7_read_6 : List UInt8 := [182, 0, 101, 167, 255, 138, 29, 172]
abbrev dktX7_read_6 : List UInt8 := dkwX7_read_6 ++ []
def dkwX7_read_5 : List UInt8 := [182, 0, 195, 153, 0, 16, 42, 89, 180, 0, 76, 4, 96, 181, 0, 76, 167, 255, 149, 42, 42, 180, 0, 76]
abbrev dktX7_read_5 : List UInt8 := dkwX7_read_5 ++ dktX7_read_6
def dkwX7_read_4 : List UInt8 := [160, 0, 14, 42, 180, 0, 76, 42, 180, 0, 79, 160, 0, 8, 3, 61, 167, 255, 171, 42, 16, 59]
abbrev dktX7_read_4 : List UInt8 := dkwX7_read_4 ++ dktX7_read_5
def dkwX7_read_3 : List UInt8 := [182, 0, 189, 167, 0, 7, 42, 182, 0, 192, 132, 3, 1, 42, 182, 0, 85, 42, 180, 0, 25, 2]
abbrev dktX7_read_3 : List UInt8 := dkwX7_read_3 ++ dktX7_read_4
def dkwX7_read_2 : List UInt8 := [167, 0, 5, 16, 14, 160, 0, 14, 42, 42, 180, 0, 76, 182, 0, 101, 167, 0, 18, 27, 153, 0, 10, 42]
abbrev dktX7_read_2 : List UInt8 := dkwX7_read_2 ++ dktX7_read_3
def dkwX7_read_1 : List UInt8 := [153, 0, 120, 42, 180, 0, 25, 2, 160, 0, 112, 42, 182, 0, 85, 29, 27, 153, 0, 8, 16, 12]
abbrev dktX7_read_1 : List UInt8 := dkwX7_read_1 ++ dktX7_read_2
def dkwX7_read_0 : List UInt8 := [42, 182, 0, 85, 42, 180, 0, 76, 42, 180, 0, 79, 162, 0, 7, 4, 167, 0, 4, 3, 61, 3, 62, 28]
abbrev dktX7_read_0 : List UInt8 := dkwX7_read_0 ++ dktX7_read_1
theorem dksX7_read_0 : cX7_read.data.toList.drop 0 = dktX7_read_0 := by decide +kernel
theorem dksX7_read_1 : cX7_read.data.toList.drop 24 = dktX7_read_1 := dk_seg dksX7_read_0 24 rfl rfl
theorem dksX7_read_2 : cX7_read.data.toList.drop 46 = dktX7_read_2 := dk_seg dksX7_read_1 22 rfl rfl
theorem dksX7_read_3 : cX7_read.data.toList.drop 70 = dktX7_read_3 := dk_seg dksX7_read_2 24 rfl rfl
theorem dksX7_read_4 : cX7_read.data.toList.drop 92 = dktX7_read_4 := dk_seg dksX7_read_3 22 rfl rfl
theorem dksX7_read_5 : cX7_read.data.toList.drop 114 = dktX7_read_5 := dk_seg dksX7_read_4 22 rfl rfl
theorem dksX7_read_6 : cX7_read.data.toList.drop 138 = dktX7_read_6 := dk_seg dksX7_read_5 24 rfl rfl
theorem dX7_read_0 : decode cX7_read 0 = .ok (.aload_n 0, 1) := dk_42 (dk_at dksX7_read_0 0 rfl rfl)
theorem dX7_read_1 : decode cX7_read 1 = .ok (.invokevirtual 85, 3) := dk_182 0 85 (dk_at dksX7_read_0 1 rfl rfl)
theorem dX7_read_4 : decode cX7_read 4 = .ok (.aload_n 0, 1) := dk_42 (dk_at dksX7_read_0 4 rfl rfl)
theorem dX7_read_5 : decode cX7_read 5 = .ok (.getfield 76, 3) := dk_180 0 76 (dk_at dksX7_read_0 5 rfl rfl)
theorem dX7_read_8 : decode cX7_read 8 = .ok (.aload_n 0, 1) := dk_42 (dk_at dksX7_read_0 8 rfl rfl)
theorem dX7_read_9 : decode cX7_read 9 = .ok (.getfield 79, 3) := dk_180 0 79 (dk_at dksX7_read_0 9 rfl rfl)
theorem dX7_read_12 : decode cX7_read 12 = .ok (.if_icmp .ge 7, 3) := dk_162 0 7 (dk_at dksX7_read_0 12 rfl rfl)
theorem dX7_read_15 : decode cX7_read 15 = .ok (.iconst 1, 1) := dk_4 (dk_at dksX7_read_0 15 rfl rfl)
theorem dX7_read_16 : decode cX7_read 16 = .ok (.goto 4, 3) := dk_167 0 4 (dk_at dksX7_read_0 16 rfl rfl)
theorem dX7_read_19 : decode cX7_read 19 = .ok (.iconst 0, 1) := dk_3 (dk_at dksX7_read_0 19 rfl rfl)
theorem dX7_read_20 : decode cX7_read 20 = .ok (.istore_n 2, 1) := dk_61 (dk_at dksX7_read_0 20 rfl rfl)
theorem dX7_read_21 : decode cX7_read 21 = .ok (.iconst 0, 1) := dk_3 (dk_at dksX7_read_0 21 rfl rfl)
theorem dX7_read_22 : decode cX7_read 22 = .ok (.istore_n 3, 1) := dk_62 (dk_at dksX7_read_0 22 rfl rfl)
theorem dX7_read_23 : decode cX7_read 23 = .ok (.iload_n 2, 1) := dk_28 (dk_at dksX7_read_0 23 rfl rfl)
theorem dX7_read_24 : decode cX7_read 24 = .ok (.ifCond .eq 120, 3) := dk_153 0 120 (dk_at dksX7_read_1 0 rfl rfl)
theorem dX7_read_27 : decode cX7_read 27 = .ok (.aload_n 0, 1) := dk_42 (dk_at dksX7_read_1 3 rfl rfl)
theorem dX7_read_28 : decode cX7_read 28 = .ok (.getfield 25, 3) := dk_180 0 25 (dk_at dksX7_read_1 4 rfl rfl)
theorem dX7_read_31 : decode cX7_read 31 = .ok (.iconst (-1), 1) := dk_2 (dk_at dksX7_read_1 7 rfl rfl)
theorem dX7_read_32 : decode cX7_read 32 = .ok (.if_icmp .ne 112, 3) := dk_160 0 112 (dk_at dksX7_read_1 8 rfl rfl)
theorem dX7_read_35 : decode cX7_read 35 = .ok (.aload_n 0, 1) := dk_42 (dk_at dksX7_read_1 11 rfl rfl)
theorem dX7_read_36 : decode cX7_read 36 = .ok (.invokevirtual 85, 3) := dk_182 0 85 (dk_at dksX7_read_1 12 rfl rfl)
theorem dX7_read_39 : decode cX7_read 39 = .ok (.iload_n 3, 1) := dk_29 (dk_at dksX7_read_1 15 rfl rfl)
theorem dX7_read_40 : decode cX7_read 40 = .ok (.iload_n 1, 1) := dk_27 (dk_at dksX7_read_1 16 rfl rfl)
theorem dX7_read_41 : decode cX7_read 41 = .ok (.ifCond .eq 8, 3) := dk_153 0 8 (dk_at dksX7_read_1 17 rfl rfl)
theorem dX7_read_44 : decode cX7_read 44 = .ok (.bipush 12, 2) := dk_16 12 (dk_at dksX7_read_1 20 rfl rfl)
theorem dX7_read_46 : decode cX7_read 46 = .ok (.goto 5, 3) := dk_167 0 5 (dk_at dksX7_read_2 0 rfl rfl)
theorem dX7_read_49 : decode cX7_read 49 = .ok (.bipush 14, 2) := dk_16 14 (dk_at dksX7_read_2 3 rfl rfl)
theorem dX7_read_51 : decode cX7_read 51 = .ok (.if_icmp .ne 14, 3) := dk_160 0 14 (dk_at dksX7_read_2 5 rfl rfl)
theorem dX7_read_54 : decode cX7_read 54 = .ok (.aload_n 0, 1) := dk_42 (dk_at dksX7_read_2 8 rfl rfl)
theorem dX7_read_55 : decode cX7_read 55 = .ok (.aload_n 0, 1) := dk_42 (dk_at dksX7_read_2 9 rfl rfl)
theorem dX7_read_56 : decode cX7_read 56 = .ok (.getfield 76, 3) := dk_180 0 76 (dk_at dksX7_read_2 10 rfl rfl)
theorem dX7_read_59 : decode cX7_read 59 = .ok (.invokevirtual 101, 3) := dk_182 0 101 (dk_at dksX7_read_2 13 rfl rfl)
theorem dX7_read_62 : decode cX7_read 62 = .ok (.goto 18, 3) := dk_167 0 18 (dk_at dksX7_read_2 16 rfl rfl)
theorem dX7_read_65 : decode cX7_read 65 = .ok (.iload_n 1, 1) := dk_27 (dk_at dksX7_read_2 19 rfl rfl)
theorem dX7_read_66 : decode cX7_read 66 = .ok (.ifCond .eq 10, 3) := dk_153 0 10 (dk_at dksX7_read_2 20 rfl rfl)
theorem dX7_read_69 : decode cX7_read 69 = .ok (.aload_n 0, 1) := dk_42 (dk_at dksX7_read_2 23 rfl rfl)
theorem dX7_read_70 : decode cX7_read 70 = .ok (.invokevirtual 189, 3) := dk_182 0 189 (dk_at dksX7_read_3 0 rfl rfl)
theorem dX7_read_73 : decode cX7_read 73 = .ok (.goto 7, 3) := dk_167 0 7 (dk_at dksX7_read_3 3 rfl rfl)
theorem dX7_read_76 : decode cX7_read 76 = .ok (.aload_n 0, 1) := dk_42 (dk_at dksX7_read_3 6 rfl rfl)
theorem dX7_read_77 : decode cX7_read 77 = .ok (.invokevirtual 192, 3) := dk_182 0 192 (dk_at dksX7_read_3 7 rfl rfl)
theorem dX7_read_80 : decode cX7_read 80 = .ok (.iinc 3 1, 3) := dk_132 3 1 (dk_at dksX7_read_3 10 rfl rfl)
theorem dX7_read_83 : decode cX7_read 83 = .ok (.aload_n 0, 1) := dk_42 (dk_at dksX7_read_3 13 rfl rfl)
theorem dX7_read_84 : decode cX7_read 84 = .ok (.invokevirtual 85, 3) := dk_182 0 85 (dk_at dksX7_read_3 14 rfl rfl)
theorem dX7_read_87 : decode cX7_read 87 = .ok (.aload_n 0, 1) := dk_42 (dk_at dksX7_read_3 17 rfl rfl)
theorem dX7_read_88 : decode cX7_read 88 = .ok (.getfield 25, 3) := dk_180 0 25 (dk_at dksX7_read_3 18 rfl rfl)
theorem dX7_read_91 : decode cX7_read 91 = .ok (.iconst (-1), 1) := dk_2 (dk_at dksX7_read_3 21 rfl rfl)
theorem dX7_read_92 : decode cX7_read 92 = .ok (.if_icmp .ne 14, 3) := dk_160 0 14 (dk_at dksX7_read_4 0 rfl rfl)
theorem dX7_read_95 : decode cX7_read 95 = .ok (.aload_n 0, 1) := dk_42 (dk_at dksX7_read_4 3 rfl rfl)
theorem dX7_read_96 : decode cX7_read 96 = .ok (.getfield 76, 3) := dk_180 0 76 (dk_at dksX7_read_4 4 rfl rfl)
theorem dX7_read_99 : decode cX7_read 99 = .ok (.aload_n 0, 1) := dk_42 (dk_at dksX7_read_4 7 rfl rfl)
theorem dX7_read_100 : decode cX7_read 100 = .ok (.getfield 79, 3) := dk_180 0 79 (dk_at dksX7_read_4 8 rfl rfl)
theorem dX7_read_103 : decode cX7_read 103 = .ok (.if_icmp .ne 8, 3) := dk_160 0 8 (dk_at dksX7_read_4 11 rfl rfl)
theorem dX7_read_106 : decode cX7_read 106 = .ok (.iconst 0, 1) := dk_3 (dk_at dksX7_read_4 14 rfl rfl)
theorem dX7_read_107 : decode cX7_read 107 = .ok (.istore_n 2, 1) := dk_61 (dk_at dksX7_read_4 15 rfl rfl)
theorem dX7_read_108 : decode cX7_read 108 = .ok (.goto (-85), 3) := dk_167 255 171 (dk_at dksX7_read_4 16 rfl rfl)
theorem dX7_read_111 : decode cX7_read 111 = .ok (.aload_n 0, 1) := dk_42 (dk_at dksX7_read_4 19 rfl rfl)
theorem dX7_read_112 : decode cX7_read 112 = .ok (.bipush 59, 2) := dk_16 59 (dk_at dksX7_read_4 20 rfl rfl)
theorem dX7_read_114 : decode cX7_read 114 = .ok (.invokevirtual 195, 3) := dk_182 0 195 (dk_at dksX7_read_5 0 rfl rfl)
theorem dX7_read_117 : decode cX7_read 117 = .ok (.ifCond .eq 16, 3) := dk_153 0 16 (dk_at dksX7_read_5 3 rfl rfl)
theorem dX7_read_120 : decode cX7_read 120 = .ok (.aload_n 0, 1) := dk_42 (dk_at dksX7_read_5 6 rfl rfl)
theorem dX7_read_121 : decode cX7_read 121 = .ok (.dup, 1) := dk_89 (dk_at dksX7_read_5 7 rfl rfl)
theorem dX7_read_122 : decode cX7_read 122 = .ok (.getfield 76, 3) := dk_180 0 76 (dk_at dksX7_read_5 8 rfl rfl)
theorem dX7_read_125 : decode cX7_read 125 = .ok (.iconst 1, 1) := dk_4 (dk_at dksX7_read_5 11 rfl rfl)
theorem dX7_read_126 : decode cX7_read 126 = .ok (.iadd, 1) := dk_96 (dk_at dksX7_read_5 12 rfl rfl)
theorem dX7_read_127 : decode cX7_read 127 = .ok (.putfield 76, 3) := dk_181 0 76 (dk_at dksX7_read_5 13 rfl rfl)
theorem dX7_read_130 : decode cX7_read 130 = .ok (.goto (-107), 3) := dk_167 255 149 (dk_at dksX7_read_5 16 rfl rfl)
theorem dX7_read_133 : decode cX7_read 133 = .ok (.aload_n 0, 1) := dk_42 (dk_at dksX7_read_5 19 rfl rfl)
theorem dX7_read_134 : decode cX7_read 134 = .ok (.aload_n 0, 1) := dk_42 (dk_at dksX7_read_5 20 rfl rfl)
theorem dX7_read_135 : decode cX7_read 135 = .ok (.getfield 76, 3) := dk_180 0 76 (dk_at dksX7_read_5 21 rfl rfl)
theorem dX7_read_138 : decode cX7_read 138 = .ok (.invokevirtual 101, 3) := dk_182 0 101 (dk_at dksX7_read_6 0 rfl rfl)
theorem dX7_read_141 : decode cX7_read 141 = .ok (.goto (-118), 3) := dk_167 255 138 (dk_at dksX7_read_6 3 rfl rfl)
theorem dX7_read_144 : decode cX7_read 144 = .ok (.iload_n 3, 1) := dk_29 (dk_at dksX7_read_6 6 rfl rfl)
theorem dX7_read_145 : decode cX7_read 145 = .ok (.ireturn, 1) := dk_172 (dk_at dksX7_read_6 7 rfl rfl)
abbrev cX7_skip : ByteArray := prog_20_method_22_code
def yX7_skip : MethodName := ⟨RX7, "skip", "()V"⟩
def dkwX7_skip_1 : List UInt8 := [42, 89, 180, 0, 76, 4, 96, 181, 0, 76, 167, 255, 222, 177]
abbrev dktX7_skip_1 : List UInt8 := dkwX7_skip_1 ++ []
def dkwX7_skip_0 : List UInt8 := [42, 180, 0, 76, 42, 180, 0, 79, 162, 0, 29, 42, 42, 180, 0, 76, 182, 0, 82, 16, 32, 160, 0, 16]
abbrev dktX7_skip_0 : List UInt8 := dkwX7_skip_0 ++ dktX7_skip_1
theorem dksX7_skip_0 : cX7_skip.data.toList.drop 0 = dktX7_skip_0 := by decide +kernel
theorem dksX7_skip_1 : cX7_skip.data.toList.drop 24 = dktX7_skip_1 := dk_seg dksX7_skip_0 24 rfl rfl
theorem dX7_skip_0 : decode cX7_skip 0 = .ok (.aload_n 0, 1) := dk_42 (dk_at dksX7_skip_0 0 rfl rfl)
theorem dX7_skip_1 : decode cX7_skip 1 = .ok (.getfield 76, 3) := dk_180 0 76 (dk_at dksX7_skip_0 1 rfl rfl)
theorem dX7_skip_4 : decode cX7_skip 4 = .ok (.aload_n 0, 1) := dk_42 (dk_at dksX7_skip_0 4 rfl rfl)
theorem dX7_skip_5 : decode cX7_skip 5 = .ok (.getfield 79, 3) := dk_180 0 79 (dk_at dksX7_skip_0 5 rfl rfl)
theorem dX7_skip_8 : decode cX7_skip 8 = .ok (.if_icmp .ge 29, 3) := dk_162 0 29 (dk_at dksX7_skip_0 8 rfl rfl)
theorem dX7_skip_11 : decode cX7_skip 11 = .ok (.aload_n 0, 1) := dk_42 (dk_at dksX7_skip_0 11 rfl rfl)
theorem dX7_skip_12 : decode cX7_skip 12 = .ok (.aload_n 0, 1) := dk_42 (dk_at dksX7_skip_0 12 rfl rfl)
theorem dX7_skip_13 : decode cX7_skip 13 = .ok (.getfield 76, 3) := dk_180 0 76 (dk_at dksX7_skip_0 13 rfl rfl)
theorem dX7_skip_16 : decode cX7_skip 16 = .ok (.invokevirtual 82, 3) := dk_182 0 82 (dk_at dksX7_skip_0 16 rfl rfl)
theorem dX7_skip_19 : decode cX7_skip 19 = .ok (.bipush 32, 2) := dk_16 32 (dk_at dksX7_skip_0 19 rfl rfl)
theorem dX7_skip_21 : decode cX7_skip 21 = .ok (.if_icmp .ne 16, 3) := dk_160 0 16 (dk_at dksX7_skip_0 21 rfl rfl)
theorem dX7_skip_24 : decode cX7_skip 24 = .ok (.aload_n 0, 1) := dk_42 (dk_at dksX7_skip_1 0 rfl rfl)
theorem dX7_skip_25 : decode cX7_skip 25 = .ok (.dup, 1) := dk_89 (dk_at dksX7_skip_1 1 rfl rfl)
theorem dX7_skip_26 : decode cX7_skip 26 = .ok (.getfield 76, 3) := dk_180 0 76 (dk_at dksX7_skip_1 2 rfl rfl)
theorem dX7_skip_29 : decode cX7_skip 29 = .ok (.iconst 1, 1) := dk_4 (dk_at dksX7_skip_1 5 rfl rfl)
theorem dX7_skip_30 : decode cX7_skip 30 = .ok (.iadd, 1) := dk_96 (dk_at dksX7_skip_1 6 rfl rfl)
theorem dX7_skip_31 : decode cX7_skip 31 = .ok (.putfield 76, 3) := dk_181 0 76 (dk_at dksX7_skip_1 7 rfl rfl)
theorem dX7_skip_34 : decode cX7_skip 34 = .ok (.goto (-34), 3) := dk_167 255 222 (dk_at dksX7_skip_1 10 rfl rfl)
theorem dX7_skip_37 : decode cX7_skip 37 = .ok (.return_, 1) := dk_177 (dk_at dksX7_skip_1 13 rfl rfl)
abbrev cX7_letter : ByteArray := prog_20_method_21_code
def yX7_letter : MethodName := ⟨RX7, "letter", "(I)I"⟩
def dkwX7_letter_1 : List UInt8 := [180, 0, 73, 27, 96, 46, 172]
abbrev dktX7_letter_1 : List UInt8 := dkwX7_letter_1 ++ []
def dkwX7_letter_0 : List UInt8 := [42, 180, 0, 73, 2, 160, 0, 12, 42, 180, 0, 22, 27, 46, 167, 0, 14, 42, 180, 0, 7, 42]
abbrev dktX7_letter_0 : List UInt8 := dkwX7_letter_0 ++ dktX7_letter_1
theorem dksX7_letter_0 : cX7_letter.data.toList.drop 0 = dktX7_letter_0 := by decide +kernel
theorem dksX7_letter_1 : cX7_letter.data.toList.drop 22 = dktX7_letter_1 := dk_seg dksX7_letter_0 22 rfl rfl
theorem dX7_letter_0 : decode cX7_letter 0 = .ok (.aload_n 0, 1) := dk_42 (dk_at dksX7_letter_0 0 rfl rfl)
theorem dX7_letter_1 : decode cX7_letter 1 = .ok (.getfield 73, 3) := dk_180 0 73 (dk_at dksX7_letter_0 1 rfl rfl)
theorem dX7_letter_4 : decode cX7_letter 4 = .ok (.iconst (-1), 1) := dk_2 (dk_at dksX7_letter_0 4 rfl rfl)
theorem dX7_letter_5 : decode cX7_letter 5 = .ok (.if_icmp .ne 12, 3) := dk_160 0 12 (dk_at dksX7_letter_0 5 rfl rfl)
theorem dX7_letter_8 : decode cX7_letter 8 = .ok (.aload_n 0, 1) := dk_42 (dk_at dksX7_letter_0 8 rfl rfl)
theorem dX7_letter_9 : decode cX7_letter 9 = .ok (.getfield 22, 3) := dk_180 0 22 (dk_at dksX7_letter_0 9 rfl rfl)
theorem dX7_letter_12 : decode cX7_letter 12 = .ok (.iload_n 1, 1) := dk_27 (dk_at dksX7_letter_0 12 rfl rfl)
theorem dX7_letter_13 : decode cX7_letter 13 = .ok (.iaload, 1) := dk_46 (dk_at dksX7_letter_0 13 rfl rfl)
theorem dX7_letter_14 : decode cX7_letter 14 = .ok (.goto 14, 3) := dk_167 0 14 (dk_at dksX7_letter_0 14 rfl rfl)
theorem dX7_letter_17 : decode cX7_letter 17 = .ok (.aload_n 0, 1) := dk_42 (dk_at dksX7_letter_0 17 rfl rfl)
theorem dX7_letter_18 : decode cX7_letter 18 = .ok (.getfield 7, 3) := dk_180 0 7 (dk_at dksX7_letter_0 18 rfl rfl)
theorem dX7_letter_21 : decode cX7_letter 21 = .ok (.aload_n 0, 1) := dk_42 (dk_at dksX7_letter_0 21 rfl rfl)
theorem dX7_letter_22 : decode cX7_letter 22 = .ok (.getfield 73, 3) := dk_180 0 73 (dk_at dksX7_letter_1 0 rfl rfl)
theorem dX7_letter_25 : decode cX7_letter 25 = .ok (.iload_n 1, 1) := dk_27 (dk_at dksX7_letter_1 3 rfl rfl)
theorem dX7_letter_26 : decode cX7_letter 26 = .ok (.iadd, 1) := dk_96 (dk_at dksX7_letter_1 4 rfl rfl)
theorem dX7_letter_27 : decode cX7_letter 27 = .ok (.iaload, 1) := dk_46 (dk_at dksX7_letter_1 5 rfl rfl)
theorem dX7_letter_28 : decode cX7_letter 28 = .ok (.ireturn, 1) := dk_172 (dk_at dksX7_letter_1 6 rfl rfl)
abbrev cX7_wrong : ByteArray := prog_20_method_25_code
def yX7_wrong : MethodName := ⟨RX7, "wrong", "(I)V"⟩
def dkwX7_wrong_0 : List UInt8 := [42, 180, 0, 25, 2, 160, 0, 8, 42, 27, 181, 0, 25, 177]
abbrev dktX7_wrong_0 : List UInt8 := dkwX7_wrong_0 ++ []
theorem dksX7_wrong_0 : cX7_wrong.data.toList.drop 0 = dktX7_wrong_0 := by decide +kernel
theorem dX7_wrong_0 : decode cX7_wrong 0 = .ok (.aload_n 0, 1) := dk_42 (dk_at dksX7_wrong_0 0 rfl rfl)
theorem dX7_wrong_1 : decode cX7_wrong 1 = .ok (.getfield 25, 3) := dk_180 0 25 (dk_at dksX7_wrong_0 1 rfl rfl)
theorem dX7_wrong_4 : decode cX7_wrong 4 = .ok (.iconst (-1), 1) := dk_2 (dk_at dksX7_wrong_0 4 rfl rfl)
theorem dX7_wrong_5 : decode cX7_wrong 5 = .ok (.if_icmp .ne 8, 3) := dk_160 0 8 (dk_at dksX7_wrong_0 5 rfl rfl)
theorem dX7_wrong_8 : decode cX7_wrong 8 = .ok (.aload_n 0, 1) := dk_42 (dk_at dksX7_wrong_0 8 rfl rfl)
theorem dX7_wrong_9 : decode cX7_wrong 9 = .ok (.iload_n 1, 1) := dk_27 (dk_at dksX7_wrong_0 9 rfl rfl)
theorem dX7_wrong_10 : decode cX7_wrong 10 = .ok (.putfield 25, 3) := dk_181 0 25 (dk_at dksX7_wrong_0 10 rfl rfl)
theorem dX7_wrong_13 : decode cX7_wrong 13 = .ok (.return_, 1) := dk_177 (dk_at dksX7_wrong_0 13 rfl rfl)
abbrev cX7_lawLine : ByteArray := prog_20_method_49_code
def yX7_lawLine : MethodName := ⟨RX7, "lawLine", "()V"⟩
def dkwX7_lawLine_6 : List UInt8 := [180, 1, 7, 27, 5, 160, 0, 7, 28, 167, 0, 4, 3, 96, 181, 1, 7, 177]
abbrev dktX7_lawLine_6 : List UInt8 := dkwX7_lawLine_6 ++ []
def dkwX7_lawLine_5 : List UInt8 := [154, 0, 7, 28, 167, 0, 14, 27, 4, 160, 0, 8, 28, 116, 167, 0, 4, 3, 96, 181, 1, 4, 42, 89]
abbrev dktX7_lawLine_5 : List UInt8 := dkwX7_lawLine_5 ++ dktX7_lawLine_6
def dkwX7_lawLine_4 : List UInt8 := [167, 0, 4, 3, 62, 42, 180, 0, 25, 2, 160, 0, 7, 29, 154, 0, 4, 177, 42, 89, 180, 1, 4, 27]
abbrev dktX7_lawLine_4 : List UInt8 := dkwX7_lawLine_4 ++ dktX7_lawLine_5
def dkwX7_lawLine_3 : List UInt8 := [159, 0, 4, 177, 42, 19, 1, 2, 182, 0, 105, 153, 0, 10, 42, 182, 0, 244, 153, 0, 7, 4]
abbrev dktX7_lawLine_3 : List UInt8 := dkwX7_lawLine_3 ++ dktX7_lawLine_4
def dkwX7_lawLine_2 : List UInt8 := [42, 42, 180, 0, 76, 182, 0, 101, 177, 42, 3, 16, 40, 182, 0, 109, 61, 42, 180, 0, 25, 2]
abbrev dktX7_lawLine_2 : List UInt8 := dkwX7_lawLine_2 ++ dktX7_lawLine_3
def dkwX7_lawLine_1 : List UInt8 := [167, 0, 18, 42, 19, 1, 0, 182, 0, 105, 153, 0, 7, 5, 167, 0, 4, 2, 60, 27, 2, 160, 0, 12]
abbrev dktX7_lawLine_1 : List UInt8 := dkwX7_lawLine_1 ++ dktX7_lawLine_2
def dkwX7_lawLine_0 : List UInt8 := [42, 18, 215, 182, 0, 105, 153, 0, 7, 3, 167, 0, 31, 42, 18, 254, 182, 0, 105, 153, 0, 7, 4]
abbrev dktX7_lawLine_0 : List UInt8 := dkwX7_lawLine_0 ++ dktX7_lawLine_1
theorem dksX7_lawLine_0 : cX7_lawLine.data.toList.drop 0 = dktX7_lawLine_0 := by decide +kernel
theorem dksX7_lawLine_1 : cX7_lawLine.data.toList.drop 23 = dktX7_lawLine_1 := dk_seg dksX7_lawLine_0 23 rfl rfl
theorem dksX7_lawLine_2 : cX7_lawLine.data.toList.drop 47 = dktX7_lawLine_2 := dk_seg dksX7_lawLine_1 24 rfl rfl
theorem dksX7_lawLine_3 : cX7_lawLine.data.toList.drop 69 = dktX7_lawLine_3 := dk_seg dksX7_lawLine_2 22 rfl rfl
theorem dksX7_lawLine_4 : cX7_lawLine.data.toList.drop 91 = dktX7_lawLine_4 := dk_seg dksX7_lawLine_3 22 rfl rfl
theorem dksX7_lawLine_5 : cX7_lawLine.data.toList.drop 115 = dktX7_lawLine_5 := dk_seg dksX7_lawLine_4 24 rfl rfl
theorem dksX7_lawLine_6 : cX7_lawLine.data.toList.drop 139 = dktX7_lawLine_6 := dk_seg dksX7_lawLine_5 24 rfl rfl
theorem dX7_lawLine_0 : decode cX7_lawLine 0 = .ok (.aload_n 0, 1) := dk_42 (dk_at dksX7_lawLine_0 0 rfl rfl)
theorem dX7_lawLine_1 : decode cX7_lawLine 1 = .ok (.ldc 215, 2) := dk_18 215 (dk_at dksX7_lawLine_0 1 rfl rfl)
theorem dX7_lawLine_3 : decode cX7_lawLine 3 = .ok (.invokevirtual 105, 3) := dk_182 0 105 (dk_at dksX7_lawLine_0 3 rfl rfl)
theorem dX7_lawLine_6 : decode cX7_lawLine 6 = .ok (.ifCond .eq 7, 3) := dk_153 0 7 (dk_at dksX7_lawLine_0 6 rfl rfl)
theorem dX7_lawLine_9 : decode cX7_lawLine 9 = .ok (.iconst 0, 1) := dk_3 (dk_at dksX7_lawLine_0 9 rfl rfl)
theorem dX7_lawLine_10 : decode cX7_lawLine 10 = .ok (.goto 31, 3) := dk_167 0 31 (dk_at dksX7_lawLine_0 10 rfl rfl)
theorem dX7_lawLine_13 : decode cX7_lawLine 13 = .ok (.aload_n 0, 1) := dk_42 (dk_at dksX7_lawLine_0 13 rfl rfl)
theorem dX7_lawLine_14 : decode cX7_lawLine 14 = .ok (.ldc 254, 2) := dk_18 254 (dk_at dksX7_lawLine_0 14 rfl rfl)
theorem dX7_lawLine_16 : decode cX7_lawLine 16 = .ok (.invokevirtual 105, 3) := dk_182 0 105 (dk_at dksX7_lawLine_0 16 rfl rfl)
theorem dX7_lawLine_19 : decode cX7_lawLine 19 = .ok (.ifCond .eq 7, 3) := dk_153 0 7 (dk_at dksX7_lawLine_0 19 rfl rfl)
theorem dX7_lawLine_22 : decode cX7_lawLine 22 = .ok (.iconst 1, 1) := dk_4 (dk_at dksX7_lawLine_0 22 rfl rfl)
theorem dX7_lawLine_23 : decode cX7_lawLine 23 = .ok (.goto 18, 3) := dk_167 0 18 (dk_at dksX7_lawLine_1 0 rfl rfl)
theorem dX7_lawLine_26 : decode cX7_lawLine 26 = .ok (.aload_n 0, 1) := dk_42 (dk_at dksX7_lawLine_1 3 rfl rfl)
theorem dX7_lawLine_27 : decode cX7_lawLine 27 = .ok (.ldc_w 256, 3) := dk_19 1 0 (dk_at dksX7_lawLine_1 4 rfl rfl)
theorem dX7_lawLine_30 : decode cX7_lawLine 30 = .ok (.invokevirtual 105, 3) := dk_182 0 105 (dk_at dksX7_lawLine_1 7 rfl rfl)
theorem dX7_lawLine_33 : decode cX7_lawLine 33 = .ok (.ifCond .eq 7, 3) := dk_153 0 7 (dk_at dksX7_lawLine_1 10 rfl rfl)
theorem dX7_lawLine_36 : decode cX7_lawLine 36 = .ok (.iconst 2, 1) := dk_5 (dk_at dksX7_lawLine_1 13 rfl rfl)
theorem dX7_lawLine_37 : decode cX7_lawLine 37 = .ok (.goto 4, 3) := dk_167 0 4 (dk_at dksX7_lawLine_1 14 rfl rfl)
theorem dX7_lawLine_40 : decode cX7_lawLine 40 = .ok (.iconst (-1), 1) := dk_2 (dk_at dksX7_lawLine_1 17 rfl rfl)
theorem dX7_lawLine_41 : decode cX7_lawLine 41 = .ok (.istore_n 1, 1) := dk_60 (dk_at dksX7_lawLine_1 18 rfl rfl)
theorem dX7_lawLine_42 : decode cX7_lawLine 42 = .ok (.iload_n 1, 1) := dk_27 (dk_at dksX7_lawLine_1 19 rfl rfl)
theorem dX7_lawLine_43 : decode cX7_lawLine 43 = .ok (.iconst (-1), 1) := dk_2 (dk_at dksX7_lawLine_1 20 rfl rfl)
theorem dX7_lawLine_44 : decode cX7_lawLine 44 = .ok (.if_icmp .ne 12, 3) := dk_160 0 12 (dk_at dksX7_lawLine_1 21 rfl rfl)
theorem dX7_lawLine_47 : decode cX7_lawLine 47 = .ok (.aload_n 0, 1) := dk_42 (dk_at dksX7_lawLine_2 0 rfl rfl)
theorem dX7_lawLine_48 : decode cX7_lawLine 48 = .ok (.aload_n 0, 1) := dk_42 (dk_at dksX7_lawLine_2 1 rfl rfl)
theorem dX7_lawLine_49 : decode cX7_lawLine 49 = .ok (.getfield 76, 3) := dk_180 0 76 (dk_at dksX7_lawLine_2 2 rfl rfl)
theorem dX7_lawLine_52 : decode cX7_lawLine 52 = .ok (.invokevirtual 101, 3) := dk_182 0 101 (dk_at dksX7_lawLine_2 5 rfl rfl)
theorem dX7_lawLine_55 : decode cX7_lawLine 55 = .ok (.return_, 1) := dk_177 (dk_at dksX7_lawLine_2 8 rfl rfl)
theorem dX7_lawLine_56 : decode cX7_lawLine 56 = .ok (.aload_n 0, 1) := dk_42 (dk_at dksX7_lawLine_2 9 rfl rfl)
theorem dX7_lawLine_57 : decode cX7_lawLine 57 = .ok (.iconst 0, 1) := dk_3 (dk_at dksX7_lawLine_2 10 rfl rfl)
theorem dX7_lawLine_58 : decode cX7_lawLine 58 = .ok (.bipush 40, 2) := dk_16 40 (dk_at dksX7_lawLine_2 11 rfl rfl)
theorem dX7_lawLine_60 : decode cX7_lawLine 60 = .ok (.invokevirtual 109, 3) := dk_182 0 109 (dk_at dksX7_lawLine_2 13 rfl rfl)
theorem dX7_lawLine_63 : decode cX7_lawLine 63 = .ok (.istore_n 2, 1) := dk_61 (dk_at dksX7_lawLine_2 16 rfl rfl)
theorem dX7_lawLine_64 : decode cX7_lawLine 64 = .ok (.aload_n 0, 1) := dk_42 (dk_at dksX7_lawLine_2 17 rfl rfl)
theorem dX7_lawLine_65 : decode cX7_lawLine 65 = .ok (.getfield 25, 3) := dk_180 0 25 (dk_at dksX7_lawLine_2 18 rfl rfl)
theorem dX7_lawLine_68 : decode cX7_lawLine 68 = .ok (.iconst (-1), 1) := dk_2 (dk_at dksX7_lawLine_2 21 rfl rfl)
theorem dX7_lawLine_69 : decode cX7_lawLine 69 = .ok (.if_icmp .eq 4, 3) := dk_159 0 4 (dk_at dksX7_lawLine_3 0 rfl rfl)
theorem dX7_lawLine_72 : decode cX7_lawLine 72 = .ok (.return_, 1) := dk_177 (dk_at dksX7_lawLine_3 3 rfl rfl)
theorem dX7_lawLine_73 : decode cX7_lawLine 73 = .ok (.aload_n 0, 1) := dk_42 (dk_at dksX7_lawLine_3 4 rfl rfl)
theorem dX7_lawLine_74 : decode cX7_lawLine 74 = .ok (.ldc_w 258, 3) := dk_19 1 2 (dk_at dksX7_lawLine_3 5 rfl rfl)
theorem dX7_lawLine_77 : decode cX7_lawLine 77 = .ok (.invokevirtual 105, 3) := dk_182 0 105 (dk_at dksX7_lawLine_3 8 rfl rfl)
theorem dX7_lawLine_80 : decode cX7_lawLine 80 = .ok (.ifCond .eq 10, 3) := dk_153 0 10 (dk_at dksX7_lawLine_3 11 rfl rfl)
theorem dX7_lawLine_83 : decode cX7_lawLine 83 = .ok (.aload_n 0, 1) := dk_42 (dk_at dksX7_lawLine_3 14 rfl rfl)
theorem dX7_lawLine_84 : decode cX7_lawLine 84 = .ok (.invokevirtual 244, 3) := dk_182 0 244 (dk_at dksX7_lawLine_3 15 rfl rfl)
theorem dX7_lawLine_87 : decode cX7_lawLine 87 = .ok (.ifCond .eq 7, 3) := dk_153 0 7 (dk_at dksX7_lawLine_3 18 rfl rfl)
theorem dX7_lawLine_90 : decode cX7_lawLine 90 = .ok (.iconst 1, 1) := dk_4 (dk_at dksX7_lawLine_3 21 rfl rfl)
theorem dX7_lawLine_91 : decode cX7_lawLine 91 = .ok (.goto 4, 3) := dk_167 0 4 (dk_at dksX7_lawLine_4 0 rfl rfl)
theorem dX7_lawLine_94 : decode cX7_lawLine 94 = .ok (.iconst 0, 1) := dk_3 (dk_at dksX7_lawLine_4 3 rfl rfl)
theorem dX7_lawLine_95 : decode cX7_lawLine 95 = .ok (.istore_n 3, 1) := dk_62 (dk_at dksX7_lawLine_4 4 rfl rfl)
theorem dX7_lawLine_96 : decode cX7_lawLine 96 = .ok (.aload_n 0, 1) := dk_42 (dk_at dksX7_lawLine_4 5 rfl rfl)
theorem dX7_lawLine_97 : decode cX7_lawLine 97 = .ok (.getfield 25, 3) := dk_180 0 25 (dk_at dksX7_lawLine_4 6 rfl rfl)
theorem dX7_lawLine_100 : decode cX7_lawLine 100 = .ok (.iconst (-1), 1) := dk_2 (dk_at dksX7_lawLine_4 9 rfl rfl)
theorem dX7_lawLine_101 : decode cX7_lawLine 101 = .ok (.if_icmp .ne 7, 3) := dk_160 0 7 (dk_at dksX7_lawLine_4 10 rfl rfl)
theorem dX7_lawLine_104 : decode cX7_lawLine 104 = .ok (.iload_n 3, 1) := dk_29 (dk_at dksX7_lawLine_4 13 rfl rfl)
theorem dX7_lawLine_105 : decode cX7_lawLine 105 = .ok (.ifCond .ne 4, 3) := dk_154 0 4 (dk_at dksX7_lawLine_4 14 rfl rfl)
theorem dX7_lawLine_108 : decode cX7_lawLine 108 = .ok (.return_, 1) := dk_177 (dk_at dksX7_lawLine_4 17 rfl rfl)
theorem dX7_lawLine_109 : decode cX7_lawLine 109 = .ok (.aload_n 0, 1) := dk_42 (dk_at dksX7_lawLine_4 18 rfl rfl)
theorem dX7_lawLine_110 : decode cX7_lawLine 110 = .ok (.dup, 1) := dk_89 (dk_at dksX7_lawLine_4 19 rfl rfl)
theorem dX7_lawLine_111 : decode cX7_lawLine 111 = .ok (.getfield 260, 3) := dk_180 1 4 (dk_at dksX7_lawLine_4 20 rfl rfl)
theorem dX7_lawLine_114 : decode cX7_lawLine 114 = .ok (.iload_n 1, 1) := dk_27 (dk_at dksX7_lawLine_4 23 rfl rfl)
theorem dX7_lawLine_115 : decode cX7_lawLine 115 = .ok (.ifCond .ne 7, 3) := dk_154 0 7 (dk_at dksX7_lawLine_5 0 rfl rfl)
theorem dX7_lawLine_118 : decode cX7_lawLine 118 = .ok (.iload_n 2, 1) := dk_28 (dk_at dksX7_lawLine_5 3 rfl rfl)
theorem dX7_lawLine_119 : decode cX7_lawLine 119 = .ok (.goto 14, 3) := dk_167 0 14 (dk_at dksX7_lawLine_5 4 rfl rfl)
theorem dX7_lawLine_122 : decode cX7_lawLine 122 = .ok (.iload_n 1, 1) := dk_27 (dk_at dksX7_lawLine_5 7 rfl rfl)
theorem dX7_lawLine_123 : decode cX7_lawLine 123 = .ok (.iconst 1, 1) := dk_4 (dk_at dksX7_lawLine_5 8 rfl rfl)
theorem dX7_lawLine_124 : decode cX7_lawLine 124 = .ok (.if_icmp .ne 8, 3) := dk_160 0 8 (dk_at dksX7_lawLine_5 9 rfl rfl)
theorem dX7_lawLine_127 : decode cX7_lawLine 127 = .ok (.iload_n 2, 1) := dk_28 (dk_at dksX7_lawLine_5 12 rfl rfl)
theorem dX7_lawLine_128 : decode cX7_lawLine 128 = .ok (.ineg, 1) := dk_116 (dk_at dksX7_lawLine_5 13 rfl rfl)
theorem dX7_lawLine_129 : decode cX7_lawLine 129 = .ok (.goto 4, 3) := dk_167 0 4 (dk_at dksX7_lawLine_5 14 rfl rfl)
theorem dX7_lawLine_132 : decode cX7_lawLine 132 = .ok (.iconst 0, 1) := dk_3 (dk_at dksX7_lawLine_5 17 rfl rfl)
theorem dX7_lawLine_133 : decode cX7_lawLine 133 = .ok (.iadd, 1) := dk_96 (dk_at dksX7_lawLine_5 18 rfl rfl)
theorem dX7_lawLine_134 : decode cX7_lawLine 134 = .ok (.putfield 260, 3) := dk_181 1 4 (dk_at dksX7_lawLine_5 19 rfl rfl)
theorem dX7_lawLine_137 : decode cX7_lawLine 137 = .ok (.aload_n 0, 1) := dk_42 (dk_at dksX7_lawLine_5 22 rfl rfl)
theorem dX7_lawLine_138 : decode cX7_lawLine 138 = .ok (.dup, 1) := dk_89 (dk_at dksX7_lawLine_5 23 rfl rfl)
theorem dX7_lawLine_139 : decode cX7_lawLine 139 = .ok (.getfield 263, 3) := dk_180 1 7 (dk_at dksX7_lawLine_6 0 rfl rfl)
theorem dX7_lawLine_142 : decode cX7_lawLine 142 = .ok (.iload_n 1, 1) := dk_27 (dk_at dksX7_lawLine_6 3 rfl rfl)
theorem dX7_lawLine_143 : decode cX7_lawLine 143 = .ok (.iconst 2, 1) := dk_5 (dk_at dksX7_lawLine_6 4 rfl rfl)
theorem dX7_lawLine_144 : decode cX7_lawLine 144 = .ok (.if_icmp .ne 7, 3) := dk_160 0 7 (dk_at dksX7_lawLine_6 5 rfl rfl)
theorem dX7_lawLine_147 : decode cX7_lawLine 147 = .ok (.iload_n 2, 1) := dk_28 (dk_at dksX7_lawLine_6 8 rfl rfl)
theorem dX7_lawLine_148 : decode cX7_lawLine 148 = .ok (.goto 4, 3) := dk_167 0 4 (dk_at dksX7_lawLine_6 9 rfl rfl)
theorem dX7_lawLine_151 : decode cX7_lawLine 151 = .ok (.iconst 0, 1) := dk_3 (dk_at dksX7_lawLine_6 12 rfl rfl)
theorem dX7_lawLine_152 : decode cX7_lawLine 152 = .ok (.iadd, 1) := dk_96 (dk_at dksX7_lawLine_6 13 rfl rfl)
theorem dX7_lawLine_153 : decode cX7_lawLine 153 = .ok (.putfield 263, 3) := dk_181 1 7 (dk_at dksX7_lawLine_6 14 rfl rfl)
theorem dX7_lawLine_156 : decode cX7_lawLine 156 = .ok (.return_, 1) := dk_177 (dk_at dksX7_lawLine_6 17 rfl rfl)
abbrev cX7_has : ByteArray := prog_20_method_24_code
def yX7_has : MethodName := ⟨RX7, "has", "(Ljava/lang/String;)Z"⟩
def dkwX7_has_4 : List UInt8 := [4, 172]
abbrev dktX7_has_4 : List UInt8 := dkwX7_has_4 ++ []
def dkwX7_has_3 : List UInt8 := [182, 0, 82, 43, 29, 182, 0, 94, 159, 0, 5, 3, 172, 132, 3, 1, 167, 255, 225, 42, 28, 181, 0, 76]
abbrev dktX7_has_3 : List UInt8 := dkwX7_has_3 ++ dktX7_has_4
def dkwX7_has_2 : List UInt8 := [159, 0, 5, 3, 172, 3, 62, 29, 43, 182, 0, 88, 162, 0, 29, 42, 42, 180, 0, 76, 29, 96]
abbrev dktX7_has_2 : List UInt8 := dkwX7_has_2 ++ dktX7_has_3
def dkwX7_has_1 : List UInt8 := [16, 122, 184, 0, 48, 153, 0, 9, 132, 2, 1, 167, 255, 230, 28, 42, 180, 0, 76, 100, 43, 182, 0, 88]
abbrev dktX7_has_1 : List UInt8 := dkwX7_has_1 ++ dktX7_has_2
def dkwX7_has_0 : List UInt8 := [42, 182, 0, 85, 42, 180, 0, 76, 61, 28, 42, 180, 0, 79, 162, 0, 24, 42, 28, 182, 0, 82, 16, 97]
abbrev dktX7_has_0 : List UInt8 := dkwX7_has_0 ++ dktX7_has_1
theorem dksX7_has_0 : cX7_has.data.toList.drop 0 = dktX7_has_0 := by decide +kernel
theorem dksX7_has_1 : cX7_has.data.toList.drop 24 = dktX7_has_1 := dk_seg dksX7_has_0 24 rfl rfl
theorem dksX7_has_2 : cX7_has.data.toList.drop 48 = dktX7_has_2 := dk_seg dksX7_has_1 24 rfl rfl
theorem dksX7_has_3 : cX7_has.data.toList.drop 70 = dktX7_has_3 := dk_seg dksX7_has_2 22 rfl rfl
theorem dksX7_has_4 : cX7_has.data.toList.drop 94 = dktX7_has_4 := dk_seg dksX7_has_3 24 rfl rfl
theorem dX7_has_0 : decode cX7_has 0 = .ok (.aload_n 0, 1) := dk_42 (dk_at dksX7_has_0 0 rfl rfl)
theorem dX7_has_1 : decode cX7_has 1 = .ok (.invokevirtual 85, 3) := dk_182 0 85 (dk_at dksX7_has_0 1 rfl rfl)
theorem dX7_has_4 : decode cX7_has 4 = .ok (.aload_n 0, 1) := dk_42 (dk_at dksX7_has_0 4 rfl rfl)
theorem dX7_has_5 : decode cX7_has 5 = .ok (.getfield 76, 3) := dk_180 0 76 (dk_at dksX7_has_0 5 rfl rfl)
theorem dX7_has_8 : decode cX7_has 8 = .ok (.istore_n 2, 1) := dk_61 (dk_at dksX7_has_0 8 rfl rfl)
theorem dX7_has_9 : decode cX7_has 9 = .ok (.iload_n 2, 1) := dk_28 (dk_at dksX7_has_0 9 rfl rfl)
theorem dX7_has_10 : decode cX7_has 10 = .ok (.aload_n 0, 1) := dk_42 (dk_at dksX7_has_0 10 rfl rfl)
theorem dX7_has_11 : decode cX7_has 11 = .ok (.getfield 79, 3) := dk_180 0 79 (dk_at dksX7_has_0 11 rfl rfl)
theorem dX7_has_14 : decode cX7_has 14 = .ok (.if_icmp .ge 24, 3) := dk_162 0 24 (dk_at dksX7_has_0 14 rfl rfl)
theorem dX7_has_17 : decode cX7_has 17 = .ok (.aload_n 0, 1) := dk_42 (dk_at dksX7_has_0 17 rfl rfl)
theorem dX7_has_18 : decode cX7_has 18 = .ok (.iload_n 2, 1) := dk_28 (dk_at dksX7_has_0 18 rfl rfl)
theorem dX7_has_19 : decode cX7_has 19 = .ok (.invokevirtual 82, 3) := dk_182 0 82 (dk_at dksX7_has_0 19 rfl rfl)
theorem dX7_has_22 : decode cX7_has 22 = .ok (.bipush 97, 2) := dk_16 97 (dk_at dksX7_has_0 22 rfl rfl)
theorem dX7_has_24 : decode cX7_has 24 = .ok (.bipush 122, 2) := dk_16 122 (dk_at dksX7_has_1 0 rfl rfl)
theorem dX7_has_26 : decode cX7_has 26 = .ok (.invokestatic 48, 3) := dk_184 0 48 (dk_at dksX7_has_1 2 rfl rfl)
theorem dX7_has_29 : decode cX7_has 29 = .ok (.ifCond .eq 9, 3) := dk_153 0 9 (dk_at dksX7_has_1 5 rfl rfl)
theorem dX7_has_32 : decode cX7_has 32 = .ok (.iinc 2 1, 3) := dk_132 2 1 (dk_at dksX7_has_1 8 rfl rfl)
theorem dX7_has_35 : decode cX7_has 35 = .ok (.goto (-26), 3) := dk_167 255 230 (dk_at dksX7_has_1 11 rfl rfl)
theorem dX7_has_38 : decode cX7_has 38 = .ok (.iload_n 2, 1) := dk_28 (dk_at dksX7_has_1 14 rfl rfl)
theorem dX7_has_39 : decode cX7_has 39 = .ok (.aload_n 0, 1) := dk_42 (dk_at dksX7_has_1 15 rfl rfl)
theorem dX7_has_40 : decode cX7_has 40 = .ok (.getfield 76, 3) := dk_180 0 76 (dk_at dksX7_has_1 16 rfl rfl)
theorem dX7_has_43 : decode cX7_has 43 = .ok (.isub, 1) := dk_100 (dk_at dksX7_has_1 19 rfl rfl)
theorem dX7_has_44 : decode cX7_has 44 = .ok (.aload_n 1, 1) := dk_43 (dk_at dksX7_has_1 20 rfl rfl)
theorem dX7_has_45 : decode cX7_has 45 = .ok (.invokevirtual 88, 3) := dk_182 0 88 (dk_at dksX7_has_1 21 rfl rfl)
theorem dX7_has_48 : decode cX7_has 48 = .ok (.if_icmp .eq 5, 3) := dk_159 0 5 (dk_at dksX7_has_2 0 rfl rfl)
theorem dX7_has_51 : decode cX7_has 51 = .ok (.iconst 0, 1) := dk_3 (dk_at dksX7_has_2 3 rfl rfl)
theorem dX7_has_52 : decode cX7_has 52 = .ok (.ireturn, 1) := dk_172 (dk_at dksX7_has_2 4 rfl rfl)
theorem dX7_has_53 : decode cX7_has 53 = .ok (.iconst 0, 1) := dk_3 (dk_at dksX7_has_2 5 rfl rfl)
theorem dX7_has_54 : decode cX7_has 54 = .ok (.istore_n 3, 1) := dk_62 (dk_at dksX7_has_2 6 rfl rfl)
theorem dX7_has_55 : decode cX7_has 55 = .ok (.iload_n 3, 1) := dk_29 (dk_at dksX7_has_2 7 rfl rfl)
theorem dX7_has_56 : decode cX7_has 56 = .ok (.aload_n 1, 1) := dk_43 (dk_at dksX7_has_2 8 rfl rfl)
theorem dX7_has_57 : decode cX7_has 57 = .ok (.invokevirtual 88, 3) := dk_182 0 88 (dk_at dksX7_has_2 9 rfl rfl)
theorem dX7_has_60 : decode cX7_has 60 = .ok (.if_icmp .ge 29, 3) := dk_162 0 29 (dk_at dksX7_has_2 12 rfl rfl)
theorem dX7_has_63 : decode cX7_has 63 = .ok (.aload_n 0, 1) := dk_42 (dk_at dksX7_has_2 15 rfl rfl)
theorem dX7_has_64 : decode cX7_has 64 = .ok (.aload_n 0, 1) := dk_42 (dk_at dksX7_has_2 16 rfl rfl)
theorem dX7_has_65 : decode cX7_has 65 = .ok (.getfield 76, 3) := dk_180 0 76 (dk_at dksX7_has_2 17 rfl rfl)
theorem dX7_has_68 : decode cX7_has 68 = .ok (.iload_n 3, 1) := dk_29 (dk_at dksX7_has_2 20 rfl rfl)
theorem dX7_has_69 : decode cX7_has 69 = .ok (.iadd, 1) := dk_96 (dk_at dksX7_has_2 21 rfl rfl)
theorem dX7_has_70 : decode cX7_has 70 = .ok (.invokevirtual 82, 3) := dk_182 0 82 (dk_at dksX7_has_3 0 rfl rfl)
theorem dX7_has_73 : decode cX7_has 73 = .ok (.aload_n 1, 1) := dk_43 (dk_at dksX7_has_3 3 rfl rfl)
theorem dX7_has_74 : decode cX7_has 74 = .ok (.iload_n 3, 1) := dk_29 (dk_at dksX7_has_3 4 rfl rfl)
theorem dX7_has_75 : decode cX7_has 75 = .ok (.invokevirtual 94, 3) := dk_182 0 94 (dk_at dksX7_has_3 5 rfl rfl)
theorem dX7_has_78 : decode cX7_has 78 = .ok (.if_icmp .eq 5, 3) := dk_159 0 5 (dk_at dksX7_has_3 8 rfl rfl)
theorem dX7_has_81 : decode cX7_has 81 = .ok (.iconst 0, 1) := dk_3 (dk_at dksX7_has_3 11 rfl rfl)
theorem dX7_has_82 : decode cX7_has 82 = .ok (.ireturn, 1) := dk_172 (dk_at dksX7_has_3 12 rfl rfl)
theorem dX7_has_83 : decode cX7_has 83 = .ok (.iinc 3 1, 3) := dk_132 3 1 (dk_at dksX7_has_3 13 rfl rfl)
theorem dX7_has_86 : decode cX7_has 86 = .ok (.goto (-31), 3) := dk_167 255 225 (dk_at dksX7_has_3 16 rfl rfl)
theorem dX7_has_89 : decode cX7_has 89 = .ok (.aload_n 0, 1) := dk_42 (dk_at dksX7_has_3 19 rfl rfl)
theorem dX7_has_90 : decode cX7_has 90 = .ok (.iload_n 2, 1) := dk_28 (dk_at dksX7_has_3 20 rfl rfl)
theorem dX7_has_91 : decode cX7_has 91 = .ok (.putfield 76, 3) := dk_181 0 76 (dk_at dksX7_has_3 21 rfl rfl)
theorem dX7_has_94 : decode cX7_has 94 = .ok (.iconst 1, 1) := dk_4 (dk_at dksX7_has_4 0 rfl rfl)
theorem dX7_has_95 : decode cX7_has 95 = .ok (.ireturn, 1) := dk_172 (dk_at dksX7_has_4 1 rfl rfl)
abbrev cX7_figures : ByteArray := prog_20_method_27_code
def yX7_figures : MethodName := ⟨RX7, "figures", "(II)I"⟩
def dkwX7_figures_5 : List UInt8 := [164, 0, 8, 42, 29, 182, 0, 101, 21, 4, 172]
abbrev dktX7_figures_5 : List UInt8 := dkwX7_figures_5 ++ []
def dkwX7_figures_4 : List UInt8 := [159, 0, 25, 42, 180, 0, 76, 29, 100, 6, 163, 0, 15, 21, 4, 27, 161, 0, 9, 21, 4, 28]
abbrev dktX7_figures_4 : List UInt8 := dkwX7_figures_4 ++ dktX7_figures_5
def dkwX7_figures_3 : List UInt8 := [16, 48, 100, 54, 4, 42, 89, 180, 0, 76, 4, 96, 181, 0, 76, 167, 255, 188, 42, 180, 0, 76, 29]
abbrev dktX7_figures_3 : List UInt8 := dkwX7_figures_3 ++ dktX7_figures_4
def dkwX7_figures_2 : List UInt8 := [42, 180, 0, 76, 29, 100, 6, 163, 0, 35, 16, 10, 21, 4, 104, 42, 42, 180, 0, 76, 182, 0, 82, 96]
abbrev dktX7_figures_2 : List UInt8 := dkwX7_figures_2 ++ dktX7_figures_3
def dkwX7_figures_1 : List UInt8 := [180, 0, 79, 162, 0, 63, 42, 42, 180, 0, 76, 182, 0, 82, 16, 48, 16, 57, 184, 0, 48, 153, 0, 45]
abbrev dktX7_figures_1 : List UInt8 := dkwX7_figures_1 ++ dktX7_figures_2
def dkwX7_figures_0 : List UInt8 := [42, 180, 0, 25, 2, 159, 0, 5, 3, 172, 42, 182, 0, 98, 62, 3, 54, 4, 42, 180, 0, 76, 42]
abbrev dktX7_figures_0 : List UInt8 := dkwX7_figures_0 ++ dktX7_figures_1
theorem dksX7_figures_0 : cX7_figures.data.toList.drop 0 = dktX7_figures_0 := by decide +kernel
theorem dksX7_figures_1 : cX7_figures.data.toList.drop 23 = dktX7_figures_1 := dk_seg dksX7_figures_0 23 rfl rfl
theorem dksX7_figures_2 : cX7_figures.data.toList.drop 47 = dktX7_figures_2 := dk_seg dksX7_figures_1 24 rfl rfl
theorem dksX7_figures_3 : cX7_figures.data.toList.drop 71 = dktX7_figures_3 := dk_seg dksX7_figures_2 24 rfl rfl
theorem dksX7_figures_4 : cX7_figures.data.toList.drop 94 = dktX7_figures_4 := dk_seg dksX7_figures_3 23 rfl rfl
theorem dksX7_figures_5 : cX7_figures.data.toList.drop 116 = dktX7_figures_5 := dk_seg dksX7_figures_4 22 rfl rfl
theorem dX7_figures_0 : decode cX7_figures 0 = .ok (.aload_n 0, 1) := dk_42 (dk_at dksX7_figures_0 0 rfl rfl)
theorem dX7_figures_1 : decode cX7_figures 1 = .ok (.getfield 25, 3) := dk_180 0 25 (dk_at dksX7_figures_0 1 rfl rfl)
theorem dX7_figures_4 : decode cX7_figures 4 = .ok (.iconst (-1), 1) := dk_2 (dk_at dksX7_figures_0 4 rfl rfl)
theorem dX7_figures_5 : decode cX7_figures 5 = .ok (.if_icmp .eq 5, 3) := dk_159 0 5 (dk_at dksX7_figures_0 5 rfl rfl)
theorem dX7_figures_8 : decode cX7_figures 8 = .ok (.iconst 0, 1) := dk_3 (dk_at dksX7_figures_0 8 rfl rfl)
theorem dX7_figures_9 : decode cX7_figures 9 = .ok (.ireturn, 1) := dk_172 (dk_at dksX7_figures_0 9 rfl rfl)
theorem dX7_figures_10 : decode cX7_figures 10 = .ok (.aload_n 0, 1) := dk_42 (dk_at dksX7_figures_0 10 rfl rfl)
theorem dX7_figures_11 : decode cX7_figures 11 = .ok (.invokevirtual 98, 3) := dk_182 0 98 (dk_at dksX7_figures_0 11 rfl rfl)
theorem dX7_figures_14 : decode cX7_figures 14 = .ok (.istore_n 3, 1) := dk_62 (dk_at dksX7_figures_0 14 rfl rfl)
theorem dX7_figures_15 : decode cX7_figures 15 = .ok (.iconst 0, 1) := dk_3 (dk_at dksX7_figures_0 15 rfl rfl)
theorem dX7_figures_16 : decode cX7_figures 16 = .ok (.istore 4, 2) := dk_54 4 (dk_at dksX7_figures_0 16 rfl rfl)
theorem dX7_figures_18 : decode cX7_figures 18 = .ok (.aload_n 0, 1) := dk_42 (dk_at dksX7_figures_0 18 rfl rfl)
theorem dX7_figures_19 : decode cX7_figures 19 = .ok (.getfield 76, 3) := dk_180 0 76 (dk_at dksX7_figures_0 19 rfl rfl)
theorem dX7_figures_22 : decode cX7_figures 22 = .ok (.aload_n 0, 1) := dk_42 (dk_at dksX7_figures_0 22 rfl rfl)
theorem dX7_figures_23 : decode cX7_figures 23 = .ok (.getfield 79, 3) := dk_180 0 79 (dk_at dksX7_figures_1 0 rfl rfl)
theorem dX7_figures_26 : decode cX7_figures 26 = .ok (.if_icmp .ge 63, 3) := dk_162 0 63 (dk_at dksX7_figures_1 3 rfl rfl)
theorem dX7_figures_29 : decode cX7_figures 29 = .ok (.aload_n 0, 1) := dk_42 (dk_at dksX7_figures_1 6 rfl rfl)
theorem dX7_figures_30 : decode cX7_figures 30 = .ok (.aload_n 0, 1) := dk_42 (dk_at dksX7_figures_1 7 rfl rfl)
theorem dX7_figures_31 : decode cX7_figures 31 = .ok (.getfield 76, 3) := dk_180 0 76 (dk_at dksX7_figures_1 8 rfl rfl)
theorem dX7_figures_34 : decode cX7_figures 34 = .ok (.invokevirtual 82, 3) := dk_182 0 82 (dk_at dksX7_figures_1 11 rfl rfl)
theorem dX7_figures_37 : decode cX7_figures 37 = .ok (.bipush 48, 2) := dk_16 48 (dk_at dksX7_figures_1 14 rfl rfl)
theorem dX7_figures_39 : decode cX7_figures 39 = .ok (.bipush 57, 2) := dk_16 57 (dk_at dksX7_figures_1 16 rfl rfl)
theorem dX7_figures_41 : decode cX7_figures 41 = .ok (.invokestatic 48, 3) := dk_184 0 48 (dk_at dksX7_figures_1 18 rfl rfl)
theorem dX7_figures_44 : decode cX7_figures 44 = .ok (.ifCond .eq 45, 3) := dk_153 0 45 (dk_at dksX7_figures_1 21 rfl rfl)
theorem dX7_figures_47 : decode cX7_figures 47 = .ok (.aload_n 0, 1) := dk_42 (dk_at dksX7_figures_2 0 rfl rfl)
theorem dX7_figures_48 : decode cX7_figures 48 = .ok (.getfield 76, 3) := dk_180 0 76 (dk_at dksX7_figures_2 1 rfl rfl)
theorem dX7_figures_51 : decode cX7_figures 51 = .ok (.iload_n 3, 1) := dk_29 (dk_at dksX7_figures_2 4 rfl rfl)
theorem dX7_figures_52 : decode cX7_figures 52 = .ok (.isub, 1) := dk_100 (dk_at dksX7_figures_2 5 rfl rfl)
theorem dX7_figures_53 : decode cX7_figures 53 = .ok (.iconst 3, 1) := dk_6 (dk_at dksX7_figures_2 6 rfl rfl)
theorem dX7_figures_54 : decode cX7_figures 54 = .ok (.if_icmp .gt 35, 3) := dk_163 0 35 (dk_at dksX7_figures_2 7 rfl rfl)
theorem dX7_figures_57 : decode cX7_figures 57 = .ok (.bipush 10, 2) := dk_16 10 (dk_at dksX7_figures_2 10 rfl rfl)
theorem dX7_figures_59 : decode cX7_figures 59 = .ok (.iload 4, 2) := dk_21 4 (dk_at dksX7_figures_2 12 rfl rfl)
theorem dX7_figures_61 : decode cX7_figures 61 = .ok (.imul, 1) := dk_104 (dk_at dksX7_figures_2 14 rfl rfl)
theorem dX7_figures_62 : decode cX7_figures 62 = .ok (.aload_n 0, 1) := dk_42 (dk_at dksX7_figures_2 15 rfl rfl)
theorem dX7_figures_63 : decode cX7_figures 63 = .ok (.aload_n 0, 1) := dk_42 (dk_at dksX7_figures_2 16 rfl rfl)
theorem dX7_figures_64 : decode cX7_figures 64 = .ok (.getfield 76, 3) := dk_180 0 76 (dk_at dksX7_figures_2 17 rfl rfl)
theorem dX7_figures_67 : decode cX7_figures 67 = .ok (.invokevirtual 82, 3) := dk_182 0 82 (dk_at dksX7_figures_2 20 rfl rfl)
theorem dX7_figures_70 : decode cX7_figures 70 = .ok (.iadd, 1) := dk_96 (dk_at dksX7_figures_2 23 rfl rfl)
theorem dX7_figures_71 : decode cX7_figures 71 = .ok (.bipush 48, 2) := dk_16 48 (dk_at dksX7_figures_3 0 rfl rfl)
theorem dX7_figures_73 : decode cX7_figures 73 = .ok (.isub, 1) := dk_100 (dk_at dksX7_figures_3 2 rfl rfl)
theorem dX7_figures_74 : decode cX7_figures 74 = .ok (.istore 4, 2) := dk_54 4 (dk_at dksX7_figures_3 3 rfl rfl)
theorem dX7_figures_76 : decode cX7_figures 76 = .ok (.aload_n 0, 1) := dk_42 (dk_at dksX7_figures_3 5 rfl rfl)
theorem dX7_figures_77 : decode cX7_figures 77 = .ok (.dup, 1) := dk_89 (dk_at dksX7_figures_3 6 rfl rfl)
theorem dX7_figures_78 : decode cX7_figures 78 = .ok (.getfield 76, 3) := dk_180 0 76 (dk_at dksX7_figures_3 7 rfl rfl)
theorem dX7_figures_81 : decode cX7_figures 81 = .ok (.iconst 1, 1) := dk_4 (dk_at dksX7_figures_3 10 rfl rfl)
theorem dX7_figures_82 : decode cX7_figures 82 = .ok (.iadd, 1) := dk_96 (dk_at dksX7_figures_3 11 rfl rfl)
theorem dX7_figures_83 : decode cX7_figures 83 = .ok (.putfield 76, 3) := dk_181 0 76 (dk_at dksX7_figures_3 12 rfl rfl)
theorem dX7_figures_86 : decode cX7_figures 86 = .ok (.goto (-68), 3) := dk_167 255 188 (dk_at dksX7_figures_3 15 rfl rfl)
theorem dX7_figures_89 : decode cX7_figures 89 = .ok (.aload_n 0, 1) := dk_42 (dk_at dksX7_figures_3 18 rfl rfl)
theorem dX7_figures_90 : decode cX7_figures 90 = .ok (.getfield 76, 3) := dk_180 0 76 (dk_at dksX7_figures_3 19 rfl rfl)
theorem dX7_figures_93 : decode cX7_figures 93 = .ok (.iload_n 3, 1) := dk_29 (dk_at dksX7_figures_3 22 rfl rfl)
theorem dX7_figures_94 : decode cX7_figures 94 = .ok (.if_icmp .eq 25, 3) := dk_159 0 25 (dk_at dksX7_figures_4 0 rfl rfl)
theorem dX7_figures_97 : decode cX7_figures 97 = .ok (.aload_n 0, 1) := dk_42 (dk_at dksX7_figures_4 3 rfl rfl)
theorem dX7_figures_98 : decode cX7_figures 98 = .ok (.getfield 76, 3) := dk_180 0 76 (dk_at dksX7_figures_4 4 rfl rfl)
theorem dX7_figures_101 : decode cX7_figures 101 = .ok (.iload_n 3, 1) := dk_29 (dk_at dksX7_figures_4 7 rfl rfl)
theorem dX7_figures_102 : decode cX7_figures 102 = .ok (.isub, 1) := dk_100 (dk_at dksX7_figures_4 8 rfl rfl)
theorem dX7_figures_103 : decode cX7_figures 103 = .ok (.iconst 3, 1) := dk_6 (dk_at dksX7_figures_4 9 rfl rfl)
theorem dX7_figures_104 : decode cX7_figures 104 = .ok (.if_icmp .gt 15, 3) := dk_163 0 15 (dk_at dksX7_figures_4 10 rfl rfl)
theorem dX7_figures_107 : decode cX7_figures 107 = .ok (.iload 4, 2) := dk_21 4 (dk_at dksX7_figures_4 13 rfl rfl)
theorem dX7_figures_109 : decode cX7_figures 109 = .ok (.iload_n 1, 1) := dk_27 (dk_at dksX7_figures_4 15 rfl rfl)
theorem dX7_figures_110 : decode cX7_figures 110 = .ok (.if_icmp .lt 9, 3) := dk_161 0 9 (dk_at dksX7_figures_4 16 rfl rfl)
theorem dX7_figures_113 : decode cX7_figures 113 = .ok (.iload 4, 2) := dk_21 4 (dk_at dksX7_figures_4 19 rfl rfl)
theorem dX7_figures_115 : decode cX7_figures 115 = .ok (.iload_n 2, 1) := dk_28 (dk_at dksX7_figures_4 21 rfl rfl)
theorem dX7_figures_116 : decode cX7_figures 116 = .ok (.if_icmp .le 8, 3) := dk_164 0 8 (dk_at dksX7_figures_5 0 rfl rfl)
theorem dX7_figures_119 : decode cX7_figures 119 = .ok (.aload_n 0, 1) := dk_42 (dk_at dksX7_figures_5 3 rfl rfl)
theorem dX7_figures_120 : decode cX7_figures 120 = .ok (.iload_n 3, 1) := dk_29 (dk_at dksX7_figures_5 4 rfl rfl)
theorem dX7_figures_121 : decode cX7_figures 121 = .ok (.invokevirtual 101, 3) := dk_182 0 101 (dk_at dksX7_figures_5 5 rfl rfl)
theorem dX7_figures_124 : decode cX7_figures 124 = .ok (.iload 4, 2) := dk_21 4 (dk_at dksX7_figures_5 8 rfl rfl)
theorem dX7_figures_126 : decode cX7_figures 126 = .ok (.ireturn, 1) := dk_172 (dk_at dksX7_figures_5 10 rfl rfl)
abbrev cX7_here : ByteArray := prog_20_method_26_code
def yX7_here : MethodName := ⟨RX7, "here", "()I"⟩
def dkwX7_here_0 : List UInt8 := [42, 182, 0, 85, 42, 180, 0, 76, 172]
abbrev dktX7_here_0 : List UInt8 := dkwX7_here_0 ++ []
theorem dksX7_here_0 : cX7_here.data.toList.drop 0 = dktX7_here_0 := by decide +kernel
theorem dX7_here_0 : decode cX7_here 0 = .ok (.aload_n 0, 1) := dk_42 (dk_at dksX7_here_0 0 rfl rfl)
theorem dX7_here_1 : decode cX7_here 1 = .ok (.invokevirtual 85, 3) := dk_182 0 85 (dk_at dksX7_here_0 1 rfl rfl)
theorem dX7_here_4 : decode cX7_here 4 = .ok (.aload_n 0, 1) := dk_42 (dk_at dksX7_here_0 4 rfl rfl)
theorem dX7_here_5 : decode cX7_here 5 = .ok (.getfield 76, 3) := dk_180 0 76 (dk_at dksX7_here_0 5 rfl rfl)
theorem dX7_here_8 : decode cX7_here 8 = .ok (.ireturn, 1) := dk_172 (dk_at dksX7_here_0 8 rfl rfl)
abbrev cX7_some : ByteArray := prog_20_method_48_code
def yX7_some : MethodName := ⟨RX7, "some", "()Z"⟩
def dkwX7_some_1 : List UInt8 := [182, 0, 249, 61, 27, 154, 0, 7, 28, 153, 0, 7, 4, 167, 0, 4, 3, 60, 167, 255, 220, 27, 172]
abbrev dktX7_some_1 : List UInt8 := dkwX7_some_1 ++ []
def dkwX7_some_0 : List UInt8 := [42, 182, 0, 249, 60, 42, 180, 0, 25, 2, 160, 0, 34, 42, 18, 252, 182, 0, 105, 153, 0, 25, 42]
abbrev dktX7_some_0 : List UInt8 := dkwX7_some_0 ++ dktX7_some_1
theorem dksX7_some_0 : cX7_some.data.toList.drop 0 = dktX7_some_0 := by decide +kernel
theorem dksX7_some_1 : cX7_some.data.toList.drop 23 = dktX7_some_1 := dk_seg dksX7_some_0 23 rfl rfl
theorem dX7_some_0 : decode cX7_some 0 = .ok (.aload_n 0, 1) := dk_42 (dk_at dksX7_some_0 0 rfl rfl)
theorem dX7_some_1 : decode cX7_some 1 = .ok (.invokevirtual 249, 3) := dk_182 0 249 (dk_at dksX7_some_0 1 rfl rfl)
theorem dX7_some_4 : decode cX7_some 4 = .ok (.istore_n 1, 1) := dk_60 (dk_at dksX7_some_0 4 rfl rfl)
theorem dX7_some_5 : decode cX7_some 5 = .ok (.aload_n 0, 1) := dk_42 (dk_at dksX7_some_0 5 rfl rfl)
theorem dX7_some_6 : decode cX7_some 6 = .ok (.getfield 25, 3) := dk_180 0 25 (dk_at dksX7_some_0 6 rfl rfl)
theorem dX7_some_9 : decode cX7_some 9 = .ok (.iconst (-1), 1) := dk_2 (dk_at dksX7_some_0 9 rfl rfl)
theorem dX7_some_10 : decode cX7_some 10 = .ok (.if_icmp .ne 34, 3) := dk_160 0 34 (dk_at dksX7_some_0 10 rfl rfl)
theorem dX7_some_13 : decode cX7_some 13 = .ok (.aload_n 0, 1) := dk_42 (dk_at dksX7_some_0 13 rfl rfl)
theorem dX7_some_14 : decode cX7_some 14 = .ok (.ldc 252, 2) := dk_18 252 (dk_at dksX7_some_0 14 rfl rfl)
theorem dX7_some_16 : decode cX7_some 16 = .ok (.invokevirtual 105, 3) := dk_182 0 105 (dk_at dksX7_some_0 16 rfl rfl)
theorem dX7_some_19 : decode cX7_some 19 = .ok (.ifCond .eq 25, 3) := dk_153 0 25 (dk_at dksX7_some_0 19 rfl rfl)
theorem dX7_some_22 : decode cX7_some 22 = .ok (.aload_n 0, 1) := dk_42 (dk_at dksX7_some_0 22 rfl rfl)
theorem dX7_some_23 : decode cX7_some 23 = .ok (.invokevirtual 249, 3) := dk_182 0 249 (dk_at dksX7_some_1 0 rfl rfl)
theorem dX7_some_26 : decode cX7_some 26 = .ok (.istore_n 2, 1) := dk_61 (dk_at dksX7_some_1 3 rfl rfl)
theorem dX7_some_27 : decode cX7_some 27 = .ok (.iload_n 1, 1) := dk_27 (dk_at dksX7_some_1 4 rfl rfl)
theorem dX7_some_28 : decode cX7_some 28 = .ok (.ifCond .ne 7, 3) := dk_154 0 7 (dk_at dksX7_some_1 5 rfl rfl)
theorem dX7_some_31 : decode cX7_some 31 = .ok (.iload_n 2, 1) := dk_28 (dk_at dksX7_some_1 8 rfl rfl)
theorem dX7_some_32 : decode cX7_some 32 = .ok (.ifCond .eq 7, 3) := dk_153 0 7 (dk_at dksX7_some_1 9 rfl rfl)
theorem dX7_some_35 : decode cX7_some 35 = .ok (.iconst 1, 1) := dk_4 (dk_at dksX7_some_1 12 rfl rfl)
theorem dX7_some_36 : decode cX7_some 36 = .ok (.goto 4, 3) := dk_167 0 4 (dk_at dksX7_some_1 13 rfl rfl)
theorem dX7_some_39 : decode cX7_some 39 = .ok (.iconst 0, 1) := dk_3 (dk_at dksX7_some_1 16 rfl rfl)
theorem dX7_some_40 : decode cX7_some 40 = .ok (.istore_n 1, 1) := dk_60 (dk_at dksX7_some_1 17 rfl rfl)
theorem dX7_some_41 : decode cX7_some 41 = .ok (.goto (-36), 3) := dk_167 255 220 (dk_at dksX7_some_1 18 rfl rfl)
theorem dX7_some_44 : decode cX7_some 44 = .ok (.iload_n 1, 1) := dk_27 (dk_at dksX7_some_1 21 rfl rfl)
theorem dX7_some_45 : decode cX7_some 45 = .ok (.ireturn, 1) := dk_172 (dk_at dksX7_some_1 22 rfl rfl)
abbrev cX7_every : ByteArray := prog_20_method_47_code
def yX7_every : MethodName := ⟨RX7, "every", "()Z"⟩
def dkwX7_every_1 : List UInt8 := [182, 0, 241, 61, 27, 153, 0, 11, 28, 153, 0, 7, 4, 167, 0, 4, 3, 60, 167, 255, 220, 27, 172]
abbrev dktX7_every_1 : List UInt8 := dkwX7_every_1 ++ []
def dkwX7_every_0 : List UInt8 := [42, 182, 0, 241, 60, 42, 180, 0, 25, 2, 160, 0, 34, 42, 18, 247, 182, 0, 105, 153, 0, 25, 42]
abbrev dktX7_every_0 : List UInt8 := dkwX7_every_0 ++ dktX7_every_1
theorem dksX7_every_0 : cX7_every.data.toList.drop 0 = dktX7_every_0 := by decide +kernel
theorem dksX7_every_1 : cX7_every.data.toList.drop 23 = dktX7_every_1 := dk_seg dksX7_every_0 23 rfl rfl
theorem dX7_every_0 : decode cX7_every 0 = .ok (.aload_n 0, 1) := dk_42 (dk_at dksX7_every_0 0 rfl rfl)
theorem dX7_every_1 : decode cX7_every 1 = .ok (.invokevirtual 241, 3) := dk_182 0 241 (dk_at dksX7_every_0 1 rfl rfl)
theorem dX7_every_4 : decode cX7_every 4 = .ok (.istore_n 1, 1) := dk_60 (dk_at dksX7_every_0 4 rfl rfl)
theorem dX7_every_5 : decode cX7_every 5 = .ok (.aload_n 0, 1) := dk_42 (dk_at dksX7_every_0 5 rfl rfl)
theorem dX7_every_6 : decode cX7_every 6 = .ok (.getfield 25, 3) := dk_180 0 25 (dk_at dksX7_every_0 6 rfl rfl)
theorem dX7_every_9 : decode cX7_every 9 = .ok (.iconst (-1), 1) := dk_2 (dk_at dksX7_every_0 9 rfl rfl)
theorem dX7_every_10 : decode cX7_every 10 = .ok (.if_icmp .ne 34, 3) := dk_160 0 34 (dk_at dksX7_every_0 10 rfl rfl)
theorem dX7_every_13 : decode cX7_every 13 = .ok (.aload_n 0, 1) := dk_42 (dk_at dksX7_every_0 13 rfl rfl)
theorem dX7_every_14 : decode cX7_every 14 = .ok (.ldc 247, 2) := dk_18 247 (dk_at dksX7_every_0 14 rfl rfl)
theorem dX7_every_16 : decode cX7_every 16 = .ok (.invokevirtual 105, 3) := dk_182 0 105 (dk_at dksX7_every_0 16 rfl rfl)
theorem dX7_every_19 : decode cX7_every 19 = .ok (.ifCond .eq 25, 3) := dk_153 0 25 (dk_at dksX7_every_0 19 rfl rfl)
theorem dX7_every_22 : decode cX7_every 22 = .ok (.aload_n 0, 1) := dk_42 (dk_at dksX7_every_0 22 rfl rfl)
theorem dX7_every_23 : decode cX7_every 23 = .ok (.invokevirtual 241, 3) := dk_182 0 241 (dk_at dksX7_every_1 0 rfl rfl)
theorem dX7_every_26 : decode cX7_every 26 = .ok (.istore_n 2, 1) := dk_61 (dk_at dksX7_every_1 3 rfl rfl)
theorem dX7_every_27 : decode cX7_every 27 = .ok (.iload_n 1, 1) := dk_27 (dk_at dksX7_every_1 4 rfl rfl)
theorem dX7_every_28 : decode cX7_every 28 = .ok (.ifCond .eq 11, 3) := dk_153 0 11 (dk_at dksX7_every_1 5 rfl rfl)
theorem dX7_every_31 : decode cX7_every 31 = .ok (.iload_n 2, 1) := dk_28 (dk_at dksX7_every_1 8 rfl rfl)
theorem dX7_every_32 : decode cX7_every 32 = .ok (.ifCond .eq 7, 3) := dk_153 0 7 (dk_at dksX7_every_1 9 rfl rfl)
theorem dX7_every_35 : decode cX7_every 35 = .ok (.iconst 1, 1) := dk_4 (dk_at dksX7_every_1 12 rfl rfl)
theorem dX7_every_36 : decode cX7_every 36 = .ok (.goto 4, 3) := dk_167 0 4 (dk_at dksX7_every_1 13 rfl rfl)
theorem dX7_every_39 : decode cX7_every 39 = .ok (.iconst 0, 1) := dk_3 (dk_at dksX7_every_1 16 rfl rfl)
theorem dX7_every_40 : decode cX7_every 40 = .ok (.istore_n 1, 1) := dk_60 (dk_at dksX7_every_1 17 rfl rfl)
theorem dX7_every_41 : decode cX7_every 41 = .ok (.goto (-36), 3) := dk_167 255 220 (dk_at dksX7_every_1 18 rfl rfl)
theorem dX7_every_44 : decode cX7_every 44 = .ok (.iload_n 1, 1) := dk_27 (dk_at dksX7_every_1 21 rfl rfl)
theorem dX7_every_45 : decode cX7_every 45 = .ok (.ireturn, 1) := dk_172 (dk_at dksX7_every_1 22 rfl rfl)
abbrev cX7_atom : ByteArray := prog_20_method_46_code
def yX7_atom : MethodName := ⟨RX7, "atom", "()Z"⟩
def dkwX7_atom_6 : List UInt8 := [180, 0, 186, 4, 100, 181, 0, 186, 29, 172]
abbrev dktX7_atom_6 : List UInt8 := dkwX7_atom_6 ++ []
def dkwX7_atom_5 : List UInt8 := [154, 0, 11, 42, 42, 180, 0, 76, 182, 0, 101, 42, 89, 180, 0, 76, 4, 96, 181, 0, 76, 42, 89]
abbrev dktX7_atom_5 : List UInt8 := dkwX7_atom_5 ++ dktX7_atom_6
def dkwX7_atom_4 : List UInt8 := [4, 96, 181, 0, 76, 42, 182, 0, 244, 62, 42, 180, 0, 25, 2, 160, 0, 20, 42, 16, 41, 182, 0, 195]
abbrev dktX7_atom_4 : List UInt8 := dkwX7_atom_4 ++ dktX7_atom_5
def dkwX7_atom_3 : List UInt8 := [153, 0, 19, 42, 182, 0, 241, 154, 0, 7, 4, 167, 0, 4, 3, 62, 167, 0, 53, 42, 89, 180, 0, 76]
abbrev dktX7_atom_3 : List UInt8 := dkwX7_atom_3 ++ dktX7_atom_4
def dkwX7_atom_2 : List UInt8 := [160, 0, 10, 42, 27, 182, 0, 101, 3, 172, 42, 89, 180, 0, 186, 4, 96, 181, 0, 186, 3, 62, 28]
abbrev dktX7_atom_2 : List UInt8 := dkwX7_atom_2 ++ dktX7_atom_3
def dkwX7_atom_1 : List UInt8 := [154, 0, 17, 42, 16, 40, 182, 0, 195, 154, 0, 8, 42, 182, 0, 237, 172, 42, 180, 0, 186, 16, 6]
abbrev dktX7_atom_1 : List UInt8 := dkwX7_atom_1 ++ dktX7_atom_2
def dkwX7_atom_0 : List UInt8 := [42, 180, 0, 25, 2, 159, 0, 5, 3, 172, 42, 182, 0, 98, 60, 42, 18, 235, 182, 0, 105, 61, 28]
abbrev dktX7_atom_0 : List UInt8 := dkwX7_atom_0 ++ dktX7_atom_1
theorem dksX7_atom_0 : cX7_atom.data.toList.drop 0 = dktX7_atom_0 := by decide +kernel
theorem dksX7_atom_1 : cX7_atom.data.toList.drop 23 = dktX7_atom_1 := dk_seg dksX7_atom_0 23 rfl rfl
theorem dksX7_atom_2 : cX7_atom.data.toList.drop 46 = dktX7_atom_2 := dk_seg dksX7_atom_1 23 rfl rfl
theorem dksX7_atom_3 : cX7_atom.data.toList.drop 69 = dktX7_atom_3 := dk_seg dksX7_atom_2 23 rfl rfl
theorem dksX7_atom_4 : cX7_atom.data.toList.drop 93 = dktX7_atom_4 := dk_seg dksX7_atom_3 24 rfl rfl
theorem dksX7_atom_5 : cX7_atom.data.toList.drop 117 = dktX7_atom_5 := dk_seg dksX7_atom_4 24 rfl rfl
theorem dksX7_atom_6 : cX7_atom.data.toList.drop 140 = dktX7_atom_6 := dk_seg dksX7_atom_5 23 rfl rfl
theorem dX7_atom_0 : decode cX7_atom 0 = .ok (.aload_n 0, 1) := dk_42 (dk_at dksX7_atom_0 0 rfl rfl)
theorem dX7_atom_1 : decode cX7_atom 1 = .ok (.getfield 25, 3) := dk_180 0 25 (dk_at dksX7_atom_0 1 rfl rfl)
theorem dX7_atom_4 : decode cX7_atom 4 = .ok (.iconst (-1), 1) := dk_2 (dk_at dksX7_atom_0 4 rfl rfl)
theorem dX7_atom_5 : decode cX7_atom 5 = .ok (.if_icmp .eq 5, 3) := dk_159 0 5 (dk_at dksX7_atom_0 5 rfl rfl)
theorem dX7_atom_8 : decode cX7_atom 8 = .ok (.iconst 0, 1) := dk_3 (dk_at dksX7_atom_0 8 rfl rfl)
theorem dX7_atom_9 : decode cX7_atom 9 = .ok (.ireturn, 1) := dk_172 (dk_at dksX7_atom_0 9 rfl rfl)
theorem dX7_atom_10 : decode cX7_atom 10 = .ok (.aload_n 0, 1) := dk_42 (dk_at dksX7_atom_0 10 rfl rfl)
theorem dX7_atom_11 : decode cX7_atom 11 = .ok (.invokevirtual 98, 3) := dk_182 0 98 (dk_at dksX7_atom_0 11 rfl rfl)
theorem dX7_atom_14 : decode cX7_atom 14 = .ok (.istore_n 1, 1) := dk_60 (dk_at dksX7_atom_0 14 rfl rfl)
theorem dX7_atom_15 : decode cX7_atom 15 = .ok (.aload_n 0, 1) := dk_42 (dk_at dksX7_atom_0 15 rfl rfl)
theorem dX7_atom_16 : decode cX7_atom 16 = .ok (.ldc 235, 2) := dk_18 235 (dk_at dksX7_atom_0 16 rfl rfl)
theorem dX7_atom_18 : decode cX7_atom 18 = .ok (.invokevirtual 105, 3) := dk_182 0 105 (dk_at dksX7_atom_0 18 rfl rfl)
theorem dX7_atom_21 : decode cX7_atom 21 = .ok (.istore_n 2, 1) := dk_61 (dk_at dksX7_atom_0 21 rfl rfl)
theorem dX7_atom_22 : decode cX7_atom 22 = .ok (.iload_n 2, 1) := dk_28 (dk_at dksX7_atom_0 22 rfl rfl)
theorem dX7_atom_23 : decode cX7_atom 23 = .ok (.ifCond .ne 17, 3) := dk_154 0 17 (dk_at dksX7_atom_1 0 rfl rfl)
theorem dX7_atom_26 : decode cX7_atom 26 = .ok (.aload_n 0, 1) := dk_42 (dk_at dksX7_atom_1 3 rfl rfl)
theorem dX7_atom_27 : decode cX7_atom 27 = .ok (.bipush 40, 2) := dk_16 40 (dk_at dksX7_atom_1 4 rfl rfl)
theorem dX7_atom_29 : decode cX7_atom 29 = .ok (.invokevirtual 195, 3) := dk_182 0 195 (dk_at dksX7_atom_1 6 rfl rfl)
theorem dX7_atom_32 : decode cX7_atom 32 = .ok (.ifCond .ne 8, 3) := dk_154 0 8 (dk_at dksX7_atom_1 9 rfl rfl)
theorem dX7_atom_35 : decode cX7_atom 35 = .ok (.aload_n 0, 1) := dk_42 (dk_at dksX7_atom_1 12 rfl rfl)
theorem dX7_atom_36 : decode cX7_atom 36 = .ok (.invokevirtual 237, 3) := dk_182 0 237 (dk_at dksX7_atom_1 13 rfl rfl)
theorem dX7_atom_39 : decode cX7_atom 39 = .ok (.ireturn, 1) := dk_172 (dk_at dksX7_atom_1 16 rfl rfl)
theorem dX7_atom_40 : decode cX7_atom 40 = .ok (.aload_n 0, 1) := dk_42 (dk_at dksX7_atom_1 17 rfl rfl)
theorem dX7_atom_41 : decode cX7_atom 41 = .ok (.getfield 186, 3) := dk_180 0 186 (dk_at dksX7_atom_1 18 rfl rfl)
theorem dX7_atom_44 : decode cX7_atom 44 = .ok (.bipush 6, 2) := dk_16 6 (dk_at dksX7_atom_1 21 rfl rfl)
theorem dX7_atom_46 : decode cX7_atom 46 = .ok (.if_icmp .ne 10, 3) := dk_160 0 10 (dk_at dksX7_atom_2 0 rfl rfl)
theorem dX7_atom_49 : decode cX7_atom 49 = .ok (.aload_n 0, 1) := dk_42 (dk_at dksX7_atom_2 3 rfl rfl)
theorem dX7_atom_50 : decode cX7_atom 50 = .ok (.iload_n 1, 1) := dk_27 (dk_at dksX7_atom_2 4 rfl rfl)
theorem dX7_atom_51 : decode cX7_atom 51 = .ok (.invokevirtual 101, 3) := dk_182 0 101 (dk_at dksX7_atom_2 5 rfl rfl)
theorem dX7_atom_54 : decode cX7_atom 54 = .ok (.iconst 0, 1) := dk_3 (dk_at dksX7_atom_2 8 rfl rfl)
theorem dX7_atom_55 : decode cX7_atom 55 = .ok (.ireturn, 1) := dk_172 (dk_at dksX7_atom_2 9 rfl rfl)
theorem dX7_atom_56 : decode cX7_atom 56 = .ok (.aload_n 0, 1) := dk_42 (dk_at dksX7_atom_2 10 rfl rfl)
theorem dX7_atom_57 : decode cX7_atom 57 = .ok (.dup, 1) := dk_89 (dk_at dksX7_atom_2 11 rfl rfl)
theorem dX7_atom_58 : decode cX7_atom 58 = .ok (.getfield 186, 3) := dk_180 0 186 (dk_at dksX7_atom_2 12 rfl rfl)
theorem dX7_atom_61 : decode cX7_atom 61 = .ok (.iconst 1, 1) := dk_4 (dk_at dksX7_atom_2 15 rfl rfl)
theorem dX7_atom_62 : decode cX7_atom 62 = .ok (.iadd, 1) := dk_96 (dk_at dksX7_atom_2 16 rfl rfl)
theorem dX7_atom_63 : decode cX7_atom 63 = .ok (.putfield 186, 3) := dk_181 0 186 (dk_at dksX7_atom_2 17 rfl rfl)
theorem dX7_atom_66 : decode cX7_atom 66 = .ok (.iconst 0, 1) := dk_3 (dk_at dksX7_atom_2 20 rfl rfl)
theorem dX7_atom_67 : decode cX7_atom 67 = .ok (.istore_n 3, 1) := dk_62 (dk_at dksX7_atom_2 21 rfl rfl)
theorem dX7_atom_68 : decode cX7_atom 68 = .ok (.iload_n 2, 1) := dk_28 (dk_at dksX7_atom_2 22 rfl rfl)
theorem dX7_atom_69 : decode cX7_atom 69 = .ok (.ifCond .eq 19, 3) := dk_153 0 19 (dk_at dksX7_atom_3 0 rfl rfl)
theorem dX7_atom_72 : decode cX7_atom 72 = .ok (.aload_n 0, 1) := dk_42 (dk_at dksX7_atom_3 3 rfl rfl)
theorem dX7_atom_73 : decode cX7_atom 73 = .ok (.invokevirtual 241, 3) := dk_182 0 241 (dk_at dksX7_atom_3 4 rfl rfl)
theorem dX7_atom_76 : decode cX7_atom 76 = .ok (.ifCond .ne 7, 3) := dk_154 0 7 (dk_at dksX7_atom_3 7 rfl rfl)
theorem dX7_atom_79 : decode cX7_atom 79 = .ok (.iconst 1, 1) := dk_4 (dk_at dksX7_atom_3 10 rfl rfl)
theorem dX7_atom_80 : decode cX7_atom 80 = .ok (.goto 4, 3) := dk_167 0 4 (dk_at dksX7_atom_3 11 rfl rfl)
theorem dX7_atom_83 : decode cX7_atom 83 = .ok (.iconst 0, 1) := dk_3 (dk_at dksX7_atom_3 14 rfl rfl)
theorem dX7_atom_84 : decode cX7_atom 84 = .ok (.istore_n 3, 1) := dk_62 (dk_at dksX7_atom_3 15 rfl rfl)
theorem dX7_atom_85 : decode cX7_atom 85 = .ok (.goto 53, 3) := dk_167 0 53 (dk_at dksX7_atom_3 16 rfl rfl)
theorem dX7_atom_88 : decode cX7_atom 88 = .ok (.aload_n 0, 1) := dk_42 (dk_at dksX7_atom_3 19 rfl rfl)
theorem dX7_atom_89 : decode cX7_atom 89 = .ok (.dup, 1) := dk_89 (dk_at dksX7_atom_3 20 rfl rfl)
theorem dX7_atom_90 : decode cX7_atom 90 = .ok (.getfield 76, 3) := dk_180 0 76 (dk_at dksX7_atom_3 21 rfl rfl)
theorem dX7_atom_93 : decode cX7_atom 93 = .ok (.iconst 1, 1) := dk_4 (dk_at dksX7_atom_4 0 rfl rfl)
theorem dX7_atom_94 : decode cX7_atom 94 = .ok (.iadd, 1) := dk_96 (dk_at dksX7_atom_4 1 rfl rfl)
theorem dX7_atom_95 : decode cX7_atom 95 = .ok (.putfield 76, 3) := dk_181 0 76 (dk_at dksX7_atom_4 2 rfl rfl)
theorem dX7_atom_98 : decode cX7_atom 98 = .ok (.aload_n 0, 1) := dk_42 (dk_at dksX7_atom_4 5 rfl rfl)
theorem dX7_atom_99 : decode cX7_atom 99 = .ok (.invokevirtual 244, 3) := dk_182 0 244 (dk_at dksX7_atom_4 6 rfl rfl)
theorem dX7_atom_102 : decode cX7_atom 102 = .ok (.istore_n 3, 1) := dk_62 (dk_at dksX7_atom_4 9 rfl rfl)
theorem dX7_atom_103 : decode cX7_atom 103 = .ok (.aload_n 0, 1) := dk_42 (dk_at dksX7_atom_4 10 rfl rfl)
theorem dX7_atom_104 : decode cX7_atom 104 = .ok (.getfield 25, 3) := dk_180 0 25 (dk_at dksX7_atom_4 11 rfl rfl)
theorem dX7_atom_107 : decode cX7_atom 107 = .ok (.iconst (-1), 1) := dk_2 (dk_at dksX7_atom_4 14 rfl rfl)
theorem dX7_atom_108 : decode cX7_atom 108 = .ok (.if_icmp .ne 20, 3) := dk_160 0 20 (dk_at dksX7_atom_4 15 rfl rfl)
theorem dX7_atom_111 : decode cX7_atom 111 = .ok (.aload_n 0, 1) := dk_42 (dk_at dksX7_atom_4 18 rfl rfl)
theorem dX7_atom_112 : decode cX7_atom 112 = .ok (.bipush 41, 2) := dk_16 41 (dk_at dksX7_atom_4 19 rfl rfl)
theorem dX7_atom_114 : decode cX7_atom 114 = .ok (.invokevirtual 195, 3) := dk_182 0 195 (dk_at dksX7_atom_4 21 rfl rfl)
theorem dX7_atom_117 : decode cX7_atom 117 = .ok (.ifCond .ne 11, 3) := dk_154 0 11 (dk_at dksX7_atom_5 0 rfl rfl)
theorem dX7_atom_120 : decode cX7_atom 120 = .ok (.aload_n 0, 1) := dk_42 (dk_at dksX7_atom_5 3 rfl rfl)
theorem dX7_atom_121 : decode cX7_atom 121 = .ok (.aload_n 0, 1) := dk_42 (dk_at dksX7_atom_5 4 rfl rfl)
theorem dX7_atom_122 : decode cX7_atom 122 = .ok (.getfield 76, 3) := dk_180 0 76 (dk_at dksX7_atom_5 5 rfl rfl)
theorem dX7_atom_125 : decode cX7_atom 125 = .ok (.invokevirtual 101, 3) := dk_182 0 101 (dk_at dksX7_atom_5 8 rfl rfl)
theorem dX7_atom_128 : decode cX7_atom 128 = .ok (.aload_n 0, 1) := dk_42 (dk_at dksX7_atom_5 11 rfl rfl)
theorem dX7_atom_129 : decode cX7_atom 129 = .ok (.dup, 1) := dk_89 (dk_at dksX7_atom_5 12 rfl rfl)
theorem dX7_atom_130 : decode cX7_atom 130 = .ok (.getfield 76, 3) := dk_180 0 76 (dk_at dksX7_atom_5 13 rfl rfl)
theorem dX7_atom_133 : decode cX7_atom 133 = .ok (.iconst 1, 1) := dk_4 (dk_at dksX7_atom_5 16 rfl rfl)
theorem dX7_atom_134 : decode cX7_atom 134 = .ok (.iadd, 1) := dk_96 (dk_at dksX7_atom_5 17 rfl rfl)
theorem dX7_atom_135 : decode cX7_atom 135 = .ok (.putfield 76, 3) := dk_181 0 76 (dk_at dksX7_atom_5 18 rfl rfl)
theorem dX7_atom_138 : decode cX7_atom 138 = .ok (.aload_n 0, 1) := dk_42 (dk_at dksX7_atom_5 21 rfl rfl)
theorem dX7_atom_139 : decode cX7_atom 139 = .ok (.dup, 1) := dk_89 (dk_at dksX7_atom_5 22 rfl rfl)
theorem dX7_atom_140 : decode cX7_atom 140 = .ok (.getfield 186, 3) := dk_180 0 186 (dk_at dksX7_atom_6 0 rfl rfl)
theorem dX7_atom_143 : decode cX7_atom 143 = .ok (.iconst 1, 1) := dk_4 (dk_at dksX7_atom_6 3 rfl rfl)
theorem dX7_atom_144 : decode cX7_atom 144 = .ok (.isub, 1) := dk_100 (dk_at dksX7_atom_6 4 rfl rfl)
theorem dX7_atom_145 : decode cX7_atom 145 = .ok (.putfield 186, 3) := dk_181 0 186 (dk_at dksX7_atom_6 5 rfl rfl)
theorem dX7_atom_148 : decode cX7_atom 148 = .ok (.iload_n 3, 1) := dk_29 (dk_at dksX7_atom_6 8 rfl rfl)
theorem dX7_atom_149 : decode cX7_atom 149 = .ok (.ireturn, 1) := dk_172 (dk_at dksX7_atom_6 9 rfl rfl)
abbrev cX7_isSign : ByteArray := prog_20_method_23_code
def yX7_isSign : MethodName := ⟨RX7, "isSign", "(I)Z"⟩
def dkwX7_isSign_1 : List UInt8 := [160, 0, 7, 4, 167, 0, 4, 3, 172]
abbrev dktX7_isSign_1 : List UInt8 := dkwX7_isSign_1 ++ []
def dkwX7_isSign_0 : List UInt8 := [42, 182, 0, 85, 42, 180, 0, 76, 42, 180, 0, 79, 162, 0, 19, 42, 42, 180, 0, 76, 182, 0, 82, 27]
abbrev dktX7_isSign_0 : List UInt8 := dkwX7_isSign_0 ++ dktX7_isSign_1
theorem dksX7_isSign_0 : cX7_isSign.data.toList.drop 0 = dktX7_isSign_0 := by decide +kernel
theorem dksX7_isSign_1 : cX7_isSign.data.toList.drop 24 = dktX7_isSign_1 := dk_seg dksX7_isSign_0 24 rfl rfl
theorem dX7_isSign_0 : decode cX7_isSign 0 = .ok (.aload_n 0, 1) := dk_42 (dk_at dksX7_isSign_0 0 rfl rfl)
theorem dX7_isSign_1 : decode cX7_isSign 1 = .ok (.invokevirtual 85, 3) := dk_182 0 85 (dk_at dksX7_isSign_0 1 rfl rfl)
theorem dX7_isSign_4 : decode cX7_isSign 4 = .ok (.aload_n 0, 1) := dk_42 (dk_at dksX7_isSign_0 4 rfl rfl)
theorem dX7_isSign_5 : decode cX7_isSign 5 = .ok (.getfield 76, 3) := dk_180 0 76 (dk_at dksX7_isSign_0 5 rfl rfl)
theorem dX7_isSign_8 : decode cX7_isSign 8 = .ok (.aload_n 0, 1) := dk_42 (dk_at dksX7_isSign_0 8 rfl rfl)
theorem dX7_isSign_9 : decode cX7_isSign 9 = .ok (.getfield 79, 3) := dk_180 0 79 (dk_at dksX7_isSign_0 9 rfl rfl)
theorem dX7_isSign_12 : decode cX7_isSign 12 = .ok (.if_icmp .ge 19, 3) := dk_162 0 19 (dk_at dksX7_isSign_0 12 rfl rfl)
theorem dX7_isSign_15 : decode cX7_isSign 15 = .ok (.aload_n 0, 1) := dk_42 (dk_at dksX7_isSign_0 15 rfl rfl)
theorem dX7_isSign_16 : decode cX7_isSign 16 = .ok (.aload_n 0, 1) := dk_42 (dk_at dksX7_isSign_0 16 rfl rfl)
theorem dX7_isSign_17 : decode cX7_isSign 17 = .ok (.getfield 76, 3) := dk_180 0 76 (dk_at dksX7_isSign_0 17 rfl rfl)
theorem dX7_isSign_20 : decode cX7_isSign 20 = .ok (.invokevirtual 82, 3) := dk_182 0 82 (dk_at dksX7_isSign_0 20 rfl rfl)
theorem dX7_isSign_23 : decode cX7_isSign 23 = .ok (.iload_n 1, 1) := dk_27 (dk_at dksX7_isSign_0 23 rfl rfl)
theorem dX7_isSign_24 : decode cX7_isSign 24 = .ok (.if_icmp .ne 7, 3) := dk_160 0 7 (dk_at dksX7_isSign_1 0 rfl rfl)
theorem dX7_isSign_27 : decode cX7_isSign 27 = .ok (.iconst 1, 1) := dk_4 (dk_at dksX7_isSign_1 3 rfl rfl)
theorem dX7_isSign_28 : decode cX7_isSign 28 = .ok (.goto 4, 3) := dk_167 0 4 (dk_at dksX7_isSign_1 4 rfl rfl)
theorem dX7_isSign_31 : decode cX7_isSign 31 = .ok (.iconst 0, 1) := dk_3 (dk_at dksX7_isSign_1 7 rfl rfl)
theorem dX7_isSign_32 : decode cX7_isSign 32 = .ok (.ireturn, 1) := dk_172 (dk_at dksX7_isSign_1 8 rfl rfl)
abbrev cX7_plain : ByteArray := prog_20_method_45_code
def yX7_plain : MethodName := ⟨RX7, "plain", "()Z"⟩
def dkwX7_plain_4 : List UInt8 := [27, 29, 162, 0, 7, 4, 167, 0, 17, 3, 167, 0, 13, 27, 29, 164, 0, 7, 4, 167, 0, 4, 3, 172]
abbrev dktX7_plain_4 : List UInt8 := dkwX7_plain_4 ++ []
def dkwX7_plain_3 : List UInt8 := [182, 0, 101, 3, 172, 42, 89, 180, 0, 76, 4, 96, 181, 0, 76, 42, 182, 0, 233, 62, 28, 153, 0, 16]
abbrev dktX7_plain_3 : List UInt8 := dkwX7_plain_3 ++ dktX7_plain_4
def dkwX7_plain_2 : List UInt8 := [182, 0, 195, 61, 28, 154, 0, 22, 42, 16, 62, 182, 0, 195, 154, 0, 13, 42, 42, 180, 0, 76]
abbrev dktX7_plain_2 : List UInt8 := dkwX7_plain_2 ++ dktX7_plain_3
def dkwX7_plain_1 : List UInt8 := [180, 0, 230, 172, 42, 182, 0, 233, 60, 42, 180, 0, 25, 2, 159, 0, 5, 3, 172, 42, 16, 60]
abbrev dktX7_plain_1 : List UInt8 := dkwX7_plain_1 ++ dktX7_plain_2
def dkwX7_plain_0 : List UInt8 := [42, 18, 222, 182, 0, 105, 153, 0, 8, 42, 180, 0, 224, 172, 42, 18, 228, 182, 0, 105, 153, 0, 8, 42]
abbrev dktX7_plain_0 : List UInt8 := dkwX7_plain_0 ++ dktX7_plain_1
theorem dksX7_plain_0 : cX7_plain.data.toList.drop 0 = dktX7_plain_0 := by decide +kernel
theorem dksX7_plain_1 : cX7_plain.data.toList.drop 24 = dktX7_plain_1 := dk_seg dksX7_plain_0 24 rfl rfl
theorem dksX7_plain_2 : cX7_plain.data.toList.drop 46 = dktX7_plain_2 := dk_seg dksX7_plain_1 22 rfl rfl
theorem dksX7_plain_3 : cX7_plain.data.toList.drop 68 = dktX7_plain_3 := dk_seg dksX7_plain_2 22 rfl rfl
theorem dksX7_plain_4 : cX7_plain.data.toList.drop 92 = dktX7_plain_4 := dk_seg dksX7_plain_3 24 rfl rfl
theorem dX7_plain_0 : decode cX7_plain 0 = .ok (.aload_n 0, 1) := dk_42 (dk_at dksX7_plain_0 0 rfl rfl)
theorem dX7_plain_1 : decode cX7_plain 1 = .ok (.ldc 222, 2) := dk_18 222 (dk_at dksX7_plain_0 1 rfl rfl)
theorem dX7_plain_3 : decode cX7_plain 3 = .ok (.invokevirtual 105, 3) := dk_182 0 105 (dk_at dksX7_plain_0 3 rfl rfl)
theorem dX7_plain_6 : decode cX7_plain 6 = .ok (.ifCond .eq 8, 3) := dk_153 0 8 (dk_at dksX7_plain_0 6 rfl rfl)
theorem dX7_plain_9 : decode cX7_plain 9 = .ok (.aload_n 0, 1) := dk_42 (dk_at dksX7_plain_0 9 rfl rfl)
theorem dX7_plain_10 : decode cX7_plain 10 = .ok (.getfield 224, 3) := dk_180 0 224 (dk_at dksX7_plain_0 10 rfl rfl)
theorem dX7_plain_13 : decode cX7_plain 13 = .ok (.ireturn, 1) := dk_172 (dk_at dksX7_plain_0 13 rfl rfl)
theorem dX7_plain_14 : decode cX7_plain 14 = .ok (.aload_n 0, 1) := dk_42 (dk_at dksX7_plain_0 14 rfl rfl)
theorem dX7_plain_15 : decode cX7_plain 15 = .ok (.ldc 228, 2) := dk_18 228 (dk_at dksX7_plain_0 15 rfl rfl)
theorem dX7_plain_17 : decode cX7_plain 17 = .ok (.invokevirtual 105, 3) := dk_182 0 105 (dk_at dksX7_plain_0 17 rfl rfl)
theorem dX7_plain_20 : decode cX7_plain 20 = .ok (.ifCond .eq 8, 3) := dk_153 0 8 (dk_at dksX7_plain_0 20 rfl rfl)
theorem dX7_plain_23 : decode cX7_plain 23 = .ok (.aload_n 0, 1) := dk_42 (dk_at dksX7_plain_0 23 rfl rfl)
theorem dX7_plain_24 : decode cX7_plain 24 = .ok (.getfield 230, 3) := dk_180 0 230 (dk_at dksX7_plain_1 0 rfl rfl)
theorem dX7_plain_27 : decode cX7_plain 27 = .ok (.ireturn, 1) := dk_172 (dk_at dksX7_plain_1 3 rfl rfl)
theorem dX7_plain_28 : decode cX7_plain 28 = .ok (.aload_n 0, 1) := dk_42 (dk_at dksX7_plain_1 4 rfl rfl)
theorem dX7_plain_29 : decode cX7_plain 29 = .ok (.invokevirtual 233, 3) := dk_182 0 233 (dk_at dksX7_plain_1 5 rfl rfl)
theorem dX7_plain_32 : decode cX7_plain 32 = .ok (.istore_n 1, 1) := dk_60 (dk_at dksX7_plain_1 8 rfl rfl)
theorem dX7_plain_33 : decode cX7_plain 33 = .ok (.aload_n 0, 1) := dk_42 (dk_at dksX7_plain_1 9 rfl rfl)
theorem dX7_plain_34 : decode cX7_plain 34 = .ok (.getfield 25, 3) := dk_180 0 25 (dk_at dksX7_plain_1 10 rfl rfl)
theorem dX7_plain_37 : decode cX7_plain 37 = .ok (.iconst (-1), 1) := dk_2 (dk_at dksX7_plain_1 13 rfl rfl)
theorem dX7_plain_38 : decode cX7_plain 38 = .ok (.if_icmp .eq 5, 3) := dk_159 0 5 (dk_at dksX7_plain_1 14 rfl rfl)
theorem dX7_plain_41 : decode cX7_plain 41 = .ok (.iconst 0, 1) := dk_3 (dk_at dksX7_plain_1 17 rfl rfl)
theorem dX7_plain_42 : decode cX7_plain 42 = .ok (.ireturn, 1) := dk_172 (dk_at dksX7_plain_1 18 rfl rfl)
theorem dX7_plain_43 : decode cX7_plain 43 = .ok (.aload_n 0, 1) := dk_42 (dk_at dksX7_plain_1 19 rfl rfl)
theorem dX7_plain_44 : decode cX7_plain 44 = .ok (.bipush 60, 2) := dk_16 60 (dk_at dksX7_plain_1 20 rfl rfl)
theorem dX7_plain_46 : decode cX7_plain 46 = .ok (.invokevirtual 195, 3) := dk_182 0 195 (dk_at dksX7_plain_2 0 rfl rfl)
theorem dX7_plain_49 : decode cX7_plain 49 = .ok (.istore_n 2, 1) := dk_61 (dk_at dksX7_plain_2 3 rfl rfl)
theorem dX7_plain_50 : decode cX7_plain 50 = .ok (.iload_n 2, 1) := dk_28 (dk_at dksX7_plain_2 4 rfl rfl)
theorem dX7_plain_51 : decode cX7_plain 51 = .ok (.ifCond .ne 22, 3) := dk_154 0 22 (dk_at dksX7_plain_2 5 rfl rfl)
theorem dX7_plain_54 : decode cX7_plain 54 = .ok (.aload_n 0, 1) := dk_42 (dk_at dksX7_plain_2 8 rfl rfl)
theorem dX7_plain_55 : decode cX7_plain 55 = .ok (.bipush 62, 2) := dk_16 62 (dk_at dksX7_plain_2 9 rfl rfl)
theorem dX7_plain_57 : decode cX7_plain 57 = .ok (.invokevirtual 195, 3) := dk_182 0 195 (dk_at dksX7_plain_2 11 rfl rfl)
theorem dX7_plain_60 : decode cX7_plain 60 = .ok (.ifCond .ne 13, 3) := dk_154 0 13 (dk_at dksX7_plain_2 14 rfl rfl)
theorem dX7_plain_63 : decode cX7_plain 63 = .ok (.aload_n 0, 1) := dk_42 (dk_at dksX7_plain_2 17 rfl rfl)
theorem dX7_plain_64 : decode cX7_plain 64 = .ok (.aload_n 0, 1) := dk_42 (dk_at dksX7_plain_2 18 rfl rfl)
theorem dX7_plain_65 : decode cX7_plain 65 = .ok (.getfield 76, 3) := dk_180 0 76 (dk_at dksX7_plain_2 19 rfl rfl)
theorem dX7_plain_68 : decode cX7_plain 68 = .ok (.invokevirtual 101, 3) := dk_182 0 101 (dk_at dksX7_plain_3 0 rfl rfl)
theorem dX7_plain_71 : decode cX7_plain 71 = .ok (.iconst 0, 1) := dk_3 (dk_at dksX7_plain_3 3 rfl rfl)
theorem dX7_plain_72 : decode cX7_plain 72 = .ok (.ireturn, 1) := dk_172 (dk_at dksX7_plain_3 4 rfl rfl)
theorem dX7_plain_73 : decode cX7_plain 73 = .ok (.aload_n 0, 1) := dk_42 (dk_at dksX7_plain_3 5 rfl rfl)
theorem dX7_plain_74 : decode cX7_plain 74 = .ok (.dup, 1) := dk_89 (dk_at dksX7_plain_3 6 rfl rfl)
theorem dX7_plain_75 : decode cX7_plain 75 = .ok (.getfield 76, 3) := dk_180 0 76 (dk_at dksX7_plain_3 7 rfl rfl)
theorem dX7_plain_78 : decode cX7_plain 78 = .ok (.iconst 1, 1) := dk_4 (dk_at dksX7_plain_3 10 rfl rfl)
theorem dX7_plain_79 : decode cX7_plain 79 = .ok (.iadd, 1) := dk_96 (dk_at dksX7_plain_3 11 rfl rfl)
theorem dX7_plain_80 : decode cX7_plain 80 = .ok (.putfield 76, 3) := dk_181 0 76 (dk_at dksX7_plain_3 12 rfl rfl)
theorem dX7_plain_83 : decode cX7_plain 83 = .ok (.aload_n 0, 1) := dk_42 (dk_at dksX7_plain_3 15 rfl rfl)
theorem dX7_plain_84 : decode cX7_plain 84 = .ok (.invokevirtual 233, 3) := dk_182 0 233 (dk_at dksX7_plain_3 16 rfl rfl)
theorem dX7_plain_87 : decode cX7_plain 87 = .ok (.istore_n 3, 1) := dk_62 (dk_at dksX7_plain_3 19 rfl rfl)
theorem dX7_plain_88 : decode cX7_plain 88 = .ok (.iload_n 2, 1) := dk_28 (dk_at dksX7_plain_3 20 rfl rfl)
theorem dX7_plain_89 : decode cX7_plain 89 = .ok (.ifCond .eq 16, 3) := dk_153 0 16 (dk_at dksX7_plain_3 21 rfl rfl)
theorem dX7_plain_92 : decode cX7_plain 92 = .ok (.iload_n 1, 1) := dk_27 (dk_at dksX7_plain_4 0 rfl rfl)
theorem dX7_plain_93 : decode cX7_plain 93 = .ok (.iload_n 3, 1) := dk_29 (dk_at dksX7_plain_4 1 rfl rfl)
theorem dX7_plain_94 : decode cX7_plain 94 = .ok (.if_icmp .ge 7, 3) := dk_162 0 7 (dk_at dksX7_plain_4 2 rfl rfl)
theorem dX7_plain_97 : decode cX7_plain 97 = .ok (.iconst 1, 1) := dk_4 (dk_at dksX7_plain_4 5 rfl rfl)
theorem dX7_plain_98 : decode cX7_plain 98 = .ok (.goto 17, 3) := dk_167 0 17 (dk_at dksX7_plain_4 6 rfl rfl)
theorem dX7_plain_101 : decode cX7_plain 101 = .ok (.iconst 0, 1) := dk_3 (dk_at dksX7_plain_4 9 rfl rfl)
theorem dX7_plain_102 : decode cX7_plain 102 = .ok (.goto 13, 3) := dk_167 0 13 (dk_at dksX7_plain_4 10 rfl rfl)
theorem dX7_plain_105 : decode cX7_plain 105 = .ok (.iload_n 1, 1) := dk_27 (dk_at dksX7_plain_4 13 rfl rfl)
theorem dX7_plain_106 : decode cX7_plain 106 = .ok (.iload_n 3, 1) := dk_29 (dk_at dksX7_plain_4 14 rfl rfl)
theorem dX7_plain_107 : decode cX7_plain 107 = .ok (.if_icmp .le 7, 3) := dk_164 0 7 (dk_at dksX7_plain_4 15 rfl rfl)
theorem dX7_plain_110 : decode cX7_plain 110 = .ok (.iconst 1, 1) := dk_4 (dk_at dksX7_plain_4 18 rfl rfl)
theorem dX7_plain_111 : decode cX7_plain 111 = .ok (.goto 4, 3) := dk_167 0 4 (dk_at dksX7_plain_4 19 rfl rfl)
theorem dX7_plain_114 : decode cX7_plain 114 = .ok (.iconst 0, 1) := dk_3 (dk_at dksX7_plain_4 22 rfl rfl)
theorem dX7_plain_115 : decode cX7_plain 115 = .ok (.ireturn, 1) := dk_172 (dk_at dksX7_plain_4 23 rfl rfl)
abbrev cX7_sum : ByteArray := prog_20_method_44_code
def yX7_sum : MethodName := ⟨RX7, "sum", "()I"⟩
def dkwX7_sum_1 : List UInt8 := [180, 0, 76, 4, 96, 181, 0, 76, 27, 42, 182, 0, 219, 96, 60, 167, 255, 222, 27, 172]
abbrev dktX7_sum_1 : List UInt8 := dkwX7_sum_1 ++ []
def dkwX7_sum_0 : List UInt8 := [42, 182, 0, 219, 60, 42, 180, 0, 25, 2, 160, 0, 32, 42, 16, 43, 182, 0, 195, 153, 0, 23, 42, 89]
abbrev dktX7_sum_0 : List UInt8 := dkwX7_sum_0 ++ dktX7_sum_1
theorem dksX7_sum_0 : cX7_sum.data.toList.drop 0 = dktX7_sum_0 := by decide +kernel
theorem dksX7_sum_1 : cX7_sum.data.toList.drop 24 = dktX7_sum_1 := dk_seg dksX7_sum_0 24 rfl rfl
theorem dX7_sum_0 : decode cX7_sum 0 = .ok (.aload_n 0, 1) := dk_42 (dk_at dksX7_sum_0 0 rfl rfl)
theorem dX7_sum_1 : decode cX7_sum 1 = .ok (.invokevirtual 219, 3) := dk_182 0 219 (dk_at dksX7_sum_0 1 rfl rfl)
theorem dX7_sum_4 : decode cX7_sum 4 = .ok (.istore_n 1, 1) := dk_60 (dk_at dksX7_sum_0 4 rfl rfl)
theorem dX7_sum_5 : decode cX7_sum 5 = .ok (.aload_n 0, 1) := dk_42 (dk_at dksX7_sum_0 5 rfl rfl)
theorem dX7_sum_6 : decode cX7_sum 6 = .ok (.getfield 25, 3) := dk_180 0 25 (dk_at dksX7_sum_0 6 rfl rfl)
theorem dX7_sum_9 : decode cX7_sum 9 = .ok (.iconst (-1), 1) := dk_2 (dk_at dksX7_sum_0 9 rfl rfl)
theorem dX7_sum_10 : decode cX7_sum 10 = .ok (.if_icmp .ne 32, 3) := dk_160 0 32 (dk_at dksX7_sum_0 10 rfl rfl)
theorem dX7_sum_13 : decode cX7_sum 13 = .ok (.aload_n 0, 1) := dk_42 (dk_at dksX7_sum_0 13 rfl rfl)
theorem dX7_sum_14 : decode cX7_sum 14 = .ok (.bipush 43, 2) := dk_16 43 (dk_at dksX7_sum_0 14 rfl rfl)
theorem dX7_sum_16 : decode cX7_sum 16 = .ok (.invokevirtual 195, 3) := dk_182 0 195 (dk_at dksX7_sum_0 16 rfl rfl)
theorem dX7_sum_19 : decode cX7_sum 19 = .ok (.ifCond .eq 23, 3) := dk_153 0 23 (dk_at dksX7_sum_0 19 rfl rfl)
theorem dX7_sum_22 : decode cX7_sum 22 = .ok (.aload_n 0, 1) := dk_42 (dk_at dksX7_sum_0 22 rfl rfl)
theorem dX7_sum_23 : decode cX7_sum 23 = .ok (.dup, 1) := dk_89 (dk_at dksX7_sum_0 23 rfl rfl)
theorem dX7_sum_24 : decode cX7_sum 24 = .ok (.getfield 76, 3) := dk_180 0 76 (dk_at dksX7_sum_1 0 rfl rfl)
theorem dX7_sum_27 : decode cX7_sum 27 = .ok (.iconst 1, 1) := dk_4 (dk_at dksX7_sum_1 3 rfl rfl)
theorem dX7_sum_28 : decode cX7_sum 28 = .ok (.iadd, 1) := dk_96 (dk_at dksX7_sum_1 4 rfl rfl)
theorem dX7_sum_29 : decode cX7_sum 29 = .ok (.putfield 76, 3) := dk_181 0 76 (dk_at dksX7_sum_1 5 rfl rfl)
theorem dX7_sum_32 : decode cX7_sum 32 = .ok (.iload_n 1, 1) := dk_27 (dk_at dksX7_sum_1 8 rfl rfl)
theorem dX7_sum_33 : decode cX7_sum 33 = .ok (.aload_n 0, 1) := dk_42 (dk_at dksX7_sum_1 9 rfl rfl)
theorem dX7_sum_34 : decode cX7_sum 34 = .ok (.invokevirtual 219, 3) := dk_182 0 219 (dk_at dksX7_sum_1 10 rfl rfl)
theorem dX7_sum_37 : decode cX7_sum 37 = .ok (.iadd, 1) := dk_96 (dk_at dksX7_sum_1 13 rfl rfl)
theorem dX7_sum_38 : decode cX7_sum 38 = .ok (.istore_n 1, 1) := dk_60 (dk_at dksX7_sum_1 14 rfl rfl)
theorem dX7_sum_39 : decode cX7_sum 39 = .ok (.goto (-34), 3) := dk_167 255 222 (dk_at dksX7_sum_1 15 rfl rfl)
theorem dX7_sum_42 : decode cX7_sum 42 = .ok (.iload_n 1, 1) := dk_27 (dk_at dksX7_sum_1 18 rfl rfl)
theorem dX7_sum_43 : decode cX7_sum 43 = .ok (.ireturn, 1) := dk_172 (dk_at dksX7_sum_1 19 rfl rfl)
abbrev cX7_part : ByteArray := prog_20_method_43_code
def yX7_part : MethodName := ⟨RX7, "part", "()I"⟩
def dkwX7_part_7 : List UInt8 := [172, 42, 180, 0, 29, 27, 46, 172]
abbrev dktX7_part_7 : List UInt8 := dkwX7_part_7 ++ []
def dkwX7_part_6 : List UInt8 := [153, 0, 8, 16, 6, 167, 0, 4, 2, 60, 27, 2, 160, 0, 13, 42, 42, 180, 0, 76, 182, 0, 101, 3]
abbrev dktX7_part_6 : List UInt8 := dkwX7_part_6 ++ dktX7_part_7
def dkwX7_part_5 : List UInt8 := [167, 0, 31, 42, 18, 172, 182, 0, 105, 153, 0, 7, 8, 167, 0, 18, 42, 18, 177, 182, 0, 105]
abbrev dktX7_part_5 : List UInt8 := dkwX7_part_5 ++ dktX7_part_6
def dkwX7_part_4 : List UInt8 := [18, 215, 182, 0, 105, 153, 0, 7, 6, 167, 0, 44, 42, 18, 217, 182, 0, 105, 153, 0, 7, 7]
abbrev dktX7_part_4 : List UInt8 := dkwX7_part_4 ++ dktX7_part_5
def dkwX7_part_3 : List UInt8 := [182, 0, 105, 153, 0, 7, 4, 167, 0, 70, 42, 18, 135, 182, 0, 105, 153, 0, 7, 5, 167, 0, 57, 42]
abbrev dktX7_part_3 : List UInt8 := dkwX7_part_3 ++ dktX7_part_4
def dkwX7_part_2 : List UInt8 := [17, 3, 231, 182, 0, 109, 172, 42, 18, 167, 182, 0, 105, 153, 0, 7, 3, 167, 0, 83, 42, 18, 126]
abbrev dktX7_part_2 : List UInt8 := dkwX7_part_2 ++ dktX7_part_3
def dkwX7_part_1 : List UInt8 := [162, 0, 30, 42, 42, 180, 0, 76, 182, 0, 82, 16, 48, 16, 57, 184, 0, 48, 153, 0, 12, 42, 3]
abbrev dktX7_part_1 : List UInt8 := dkwX7_part_1 ++ dktX7_part_2
def dkwX7_part_0 : List UInt8 := [42, 180, 0, 25, 2, 159, 0, 5, 3, 172, 42, 182, 0, 85, 42, 180, 0, 76, 42, 180, 0, 79]
abbrev dktX7_part_0 : List UInt8 := dkwX7_part_0 ++ dktX7_part_1
theorem dksX7_part_0 : cX7_part.data.toList.drop 0 = dktX7_part_0 := by decide +kernel
theorem dksX7_part_1 : cX7_part.data.toList.drop 22 = dktX7_part_1 := dk_seg dksX7_part_0 22 rfl rfl
theorem dksX7_part_2 : cX7_part.data.toList.drop 45 = dktX7_part_2 := dk_seg dksX7_part_1 23 rfl rfl
theorem dksX7_part_3 : cX7_part.data.toList.drop 68 = dktX7_part_3 := dk_seg dksX7_part_2 23 rfl rfl
theorem dksX7_part_4 : cX7_part.data.toList.drop 92 = dktX7_part_4 := dk_seg dksX7_part_3 24 rfl rfl
theorem dksX7_part_5 : cX7_part.data.toList.drop 114 = dktX7_part_5 := dk_seg dksX7_part_4 22 rfl rfl
theorem dksX7_part_6 : cX7_part.data.toList.drop 136 = dktX7_part_6 := dk_seg dksX7_part_5 22 rfl rfl
theorem dksX7_part_7 : cX7_part.data.toList.drop 160 = dktX7_part_7 := dk_seg dksX7_part_6 24 rfl rfl
theorem dX7_part_0 : decode cX7_part 0 = .ok (.aload_n 0, 1) := dk_42 (dk_at dksX7_part_0 0 rfl rfl)
theorem dX7_part_1 : decode cX7_part 1 = .ok (.getfield 25, 3) := dk_180 0 25 (dk_at dksX7_part_0 1 rfl rfl)
theorem dX7_part_4 : decode cX7_part 4 = .ok (.iconst (-1), 1) := dk_2 (dk_at dksX7_part_0 4 rfl rfl)
theorem dX7_part_5 : decode cX7_part 5 = .ok (.if_icmp .eq 5, 3) := dk_159 0 5 (dk_at dksX7_part_0 5 rfl rfl)
theorem dX7_part_8 : decode cX7_part 8 = .ok (.iconst 0, 1) := dk_3 (dk_at dksX7_part_0 8 rfl rfl)
theorem dX7_part_9 : decode cX7_part 9 = .ok (.ireturn, 1) := dk_172 (dk_at dksX7_part_0 9 rfl rfl)
theorem dX7_part_10 : decode cX7_part 10 = .ok (.aload_n 0, 1) := dk_42 (dk_at dksX7_part_0 10 rfl rfl)
theorem dX7_part_11 : decode cX7_part 11 = .ok (.invokevirtual 85, 3) := dk_182 0 85 (dk_at dksX7_part_0 11 rfl rfl)
theorem dX7_part_14 : decode cX7_part 14 = .ok (.aload_n 0, 1) := dk_42 (dk_at dksX7_part_0 14 rfl rfl)
theorem dX7_part_15 : decode cX7_part 15 = .ok (.getfield 76, 3) := dk_180 0 76 (dk_at dksX7_part_0 15 rfl rfl)
theorem dX7_part_18 : decode cX7_part 18 = .ok (.aload_n 0, 1) := dk_42 (dk_at dksX7_part_0 18 rfl rfl)
theorem dX7_part_19 : decode cX7_part 19 = .ok (.getfield 79, 3) := dk_180 0 79 (dk_at dksX7_part_0 19 rfl rfl)
theorem dX7_part_22 : decode cX7_part 22 = .ok (.if_icmp .ge 30, 3) := dk_162 0 30 (dk_at dksX7_part_1 0 rfl rfl)
theorem dX7_part_25 : decode cX7_part 25 = .ok (.aload_n 0, 1) := dk_42 (dk_at dksX7_part_1 3 rfl rfl)
theorem dX7_part_26 : decode cX7_part 26 = .ok (.aload_n 0, 1) := dk_42 (dk_at dksX7_part_1 4 rfl rfl)
theorem dX7_part_27 : decode cX7_part 27 = .ok (.getfield 76, 3) := dk_180 0 76 (dk_at dksX7_part_1 5 rfl rfl)
theorem dX7_part_30 : decode cX7_part 30 = .ok (.invokevirtual 82, 3) := dk_182 0 82 (dk_at dksX7_part_1 8 rfl rfl)
theorem dX7_part_33 : decode cX7_part 33 = .ok (.bipush 48, 2) := dk_16 48 (dk_at dksX7_part_1 11 rfl rfl)
theorem dX7_part_35 : decode cX7_part 35 = .ok (.bipush 57, 2) := dk_16 57 (dk_at dksX7_part_1 13 rfl rfl)
theorem dX7_part_37 : decode cX7_part 37 = .ok (.invokestatic 48, 3) := dk_184 0 48 (dk_at dksX7_part_1 15 rfl rfl)
theorem dX7_part_40 : decode cX7_part 40 = .ok (.ifCond .eq 12, 3) := dk_153 0 12 (dk_at dksX7_part_1 18 rfl rfl)
theorem dX7_part_43 : decode cX7_part 43 = .ok (.aload_n 0, 1) := dk_42 (dk_at dksX7_part_1 21 rfl rfl)
theorem dX7_part_44 : decode cX7_part 44 = .ok (.iconst 0, 1) := dk_3 (dk_at dksX7_part_1 22 rfl rfl)
theorem dX7_part_45 : decode cX7_part 45 = .ok (.sipush 999, 3) := dk_17 3 231 (dk_at dksX7_part_2 0 rfl rfl)
theorem dX7_part_48 : decode cX7_part 48 = .ok (.invokevirtual 109, 3) := dk_182 0 109 (dk_at dksX7_part_2 3 rfl rfl)
theorem dX7_part_51 : decode cX7_part 51 = .ok (.ireturn, 1) := dk_172 (dk_at dksX7_part_2 6 rfl rfl)
theorem dX7_part_52 : decode cX7_part 52 = .ok (.aload_n 0, 1) := dk_42 (dk_at dksX7_part_2 7 rfl rfl)
theorem dX7_part_53 : decode cX7_part 53 = .ok (.ldc 167, 2) := dk_18 167 (dk_at dksX7_part_2 8 rfl rfl)
theorem dX7_part_55 : decode cX7_part 55 = .ok (.invokevirtual 105, 3) := dk_182 0 105 (dk_at dksX7_part_2 10 rfl rfl)
theorem dX7_part_58 : decode cX7_part 58 = .ok (.ifCond .eq 7, 3) := dk_153 0 7 (dk_at dksX7_part_2 13 rfl rfl)
theorem dX7_part_61 : decode cX7_part 61 = .ok (.iconst 0, 1) := dk_3 (dk_at dksX7_part_2 16 rfl rfl)
theorem dX7_part_62 : decode cX7_part 62 = .ok (.goto 83, 3) := dk_167 0 83 (dk_at dksX7_part_2 17 rfl rfl)
theorem dX7_part_65 : decode cX7_part 65 = .ok (.aload_n 0, 1) := dk_42 (dk_at dksX7_part_2 20 rfl rfl)
theorem dX7_part_66 : decode cX7_part 66 = .ok (.ldc 126, 2) := dk_18 126 (dk_at dksX7_part_2 21 rfl rfl)
theorem dX7_part_68 : decode cX7_part 68 = .ok (.invokevirtual 105, 3) := dk_182 0 105 (dk_at dksX7_part_3 0 rfl rfl)
theorem dX7_part_71 : decode cX7_part 71 = .ok (.ifCond .eq 7, 3) := dk_153 0 7 (dk_at dksX7_part_3 3 rfl rfl)
theorem dX7_part_74 : decode cX7_part 74 = .ok (.iconst 1, 1) := dk_4 (dk_at dksX7_part_3 6 rfl rfl)
theorem dX7_part_75 : decode cX7_part 75 = .ok (.goto 70, 3) := dk_167 0 70 (dk_at dksX7_part_3 7 rfl rfl)
theorem dX7_part_78 : decode cX7_part 78 = .ok (.aload_n 0, 1) := dk_42 (dk_at dksX7_part_3 10 rfl rfl)
theorem dX7_part_79 : decode cX7_part 79 = .ok (.ldc 135, 2) := dk_18 135 (dk_at dksX7_part_3 11 rfl rfl)
theorem dX7_part_81 : decode cX7_part 81 = .ok (.invokevirtual 105, 3) := dk_182 0 105 (dk_at dksX7_part_3 13 rfl rfl)
theorem dX7_part_84 : decode cX7_part 84 = .ok (.ifCond .eq 7, 3) := dk_153 0 7 (dk_at dksX7_part_3 16 rfl rfl)
theorem dX7_part_87 : decode cX7_part 87 = .ok (.iconst 2, 1) := dk_5 (dk_at dksX7_part_3 19 rfl rfl)
theorem dX7_part_88 : decode cX7_part 88 = .ok (.goto 57, 3) := dk_167 0 57 (dk_at dksX7_part_3 20 rfl rfl)
theorem dX7_part_91 : decode cX7_part 91 = .ok (.aload_n 0, 1) := dk_42 (dk_at dksX7_part_3 23 rfl rfl)
theorem dX7_part_92 : decode cX7_part 92 = .ok (.ldc 215, 2) := dk_18 215 (dk_at dksX7_part_4 0 rfl rfl)
theorem dX7_part_94 : decode cX7_part 94 = .ok (.invokevirtual 105, 3) := dk_182 0 105 (dk_at dksX7_part_4 2 rfl rfl)
theorem dX7_part_97 : decode cX7_part 97 = .ok (.ifCond .eq 7, 3) := dk_153 0 7 (dk_at dksX7_part_4 5 rfl rfl)
theorem dX7_part_100 : decode cX7_part 100 = .ok (.iconst 3, 1) := dk_6 (dk_at dksX7_part_4 8 rfl rfl)
theorem dX7_part_101 : decode cX7_part 101 = .ok (.goto 44, 3) := dk_167 0 44 (dk_at dksX7_part_4 9 rfl rfl)
theorem dX7_part_104 : decode cX7_part 104 = .ok (.aload_n 0, 1) := dk_42 (dk_at dksX7_part_4 12 rfl rfl)
theorem dX7_part_105 : decode cX7_part 105 = .ok (.ldc 217, 2) := dk_18 217 (dk_at dksX7_part_4 13 rfl rfl)
theorem dX7_part_107 : decode cX7_part 107 = .ok (.invokevirtual 105, 3) := dk_182 0 105 (dk_at dksX7_part_4 15 rfl rfl)
theorem dX7_part_110 : decode cX7_part 110 = .ok (.ifCond .eq 7, 3) := dk_153 0 7 (dk_at dksX7_part_4 18 rfl rfl)
theorem dX7_part_113 : decode cX7_part 113 = .ok (.iconst 4, 1) := dk_7 (dk_at dksX7_part_4 21 rfl rfl)
theorem dX7_part_114 : decode cX7_part 114 = .ok (.goto 31, 3) := dk_167 0 31 (dk_at dksX7_part_5 0 rfl rfl)
theorem dX7_part_117 : decode cX7_part 117 = .ok (.aload_n 0, 1) := dk_42 (dk_at dksX7_part_5 3 rfl rfl)
theorem dX7_part_118 : decode cX7_part 118 = .ok (.ldc 172, 2) := dk_18 172 (dk_at dksX7_part_5 4 rfl rfl)
theorem dX7_part_120 : decode cX7_part 120 = .ok (.invokevirtual 105, 3) := dk_182 0 105 (dk_at dksX7_part_5 6 rfl rfl)
theorem dX7_part_123 : decode cX7_part 123 = .ok (.ifCond .eq 7, 3) := dk_153 0 7 (dk_at dksX7_part_5 9 rfl rfl)
theorem dX7_part_126 : decode cX7_part 126 = .ok (.iconst 5, 1) := dk_8 (dk_at dksX7_part_5 12 rfl rfl)
theorem dX7_part_127 : decode cX7_part 127 = .ok (.goto 18, 3) := dk_167 0 18 (dk_at dksX7_part_5 13 rfl rfl)
theorem dX7_part_130 : decode cX7_part 130 = .ok (.aload_n 0, 1) := dk_42 (dk_at dksX7_part_5 16 rfl rfl)
theorem dX7_part_131 : decode cX7_part 131 = .ok (.ldc 177, 2) := dk_18 177 (dk_at dksX7_part_5 17 rfl rfl)
theorem dX7_part_133 : decode cX7_part 133 = .ok (.invokevirtual 105, 3) := dk_182 0 105 (dk_at dksX7_part_5 19 rfl rfl)
theorem dX7_part_136 : decode cX7_part 136 = .ok (.ifCond .eq 8, 3) := dk_153 0 8 (dk_at dksX7_part_6 0 rfl rfl)
theorem dX7_part_139 : decode cX7_part 139 = .ok (.bipush 6, 2) := dk_16 6 (dk_at dksX7_part_6 3 rfl rfl)
theorem dX7_part_141 : decode cX7_part 141 = .ok (.goto 4, 3) := dk_167 0 4 (dk_at dksX7_part_6 5 rfl rfl)
theorem dX7_part_144 : decode cX7_part 144 = .ok (.iconst (-1), 1) := dk_2 (dk_at dksX7_part_6 8 rfl rfl)
theorem dX7_part_145 : decode cX7_part 145 = .ok (.istore_n 1, 1) := dk_60 (dk_at dksX7_part_6 9 rfl rfl)
theorem dX7_part_146 : decode cX7_part 146 = .ok (.iload_n 1, 1) := dk_27 (dk_at dksX7_part_6 10 rfl rfl)
theorem dX7_part_147 : decode cX7_part 147 = .ok (.iconst (-1), 1) := dk_2 (dk_at dksX7_part_6 11 rfl rfl)
theorem dX7_part_148 : decode cX7_part 148 = .ok (.if_icmp .ne 13, 3) := dk_160 0 13 (dk_at dksX7_part_6 12 rfl rfl)
theorem dX7_part_151 : decode cX7_part 151 = .ok (.aload_n 0, 1) := dk_42 (dk_at dksX7_part_6 15 rfl rfl)
theorem dX7_part_152 : decode cX7_part 152 = .ok (.aload_n 0, 1) := dk_42 (dk_at dksX7_part_6 16 rfl rfl)
theorem dX7_part_153 : decode cX7_part 153 = .ok (.getfield 76, 3) := dk_180 0 76 (dk_at dksX7_part_6 17 rfl rfl)
theorem dX7_part_156 : decode cX7_part 156 = .ok (.invokevirtual 101, 3) := dk_182 0 101 (dk_at dksX7_part_6 20 rfl rfl)
theorem dX7_part_159 : decode cX7_part 159 = .ok (.iconst 0, 1) := dk_3 (dk_at dksX7_part_6 23 rfl rfl)
theorem dX7_part_160 : decode cX7_part 160 = .ok (.ireturn, 1) := dk_172 (dk_at dksX7_part_7 0 rfl rfl)
theorem dX7_part_161 : decode cX7_part 161 = .ok (.aload_n 0, 1) := dk_42 (dk_at dksX7_part_7 1 rfl rfl)
theorem dX7_part_162 : decode cX7_part 162 = .ok (.getfield 29, 3) := dk_180 0 29 (dk_at dksX7_part_7 2 rfl rfl)
theorem dX7_part_165 : decode cX7_part 165 = .ok (.iload_n 1, 1) := dk_27 (dk_at dksX7_part_7 5 rfl rfl)
theorem dX7_part_166 : decode cX7_part 166 = .ok (.iaload, 1) := dk_46 (dk_at dksX7_part_7 6 rfl rfl)
theorem dX7_part_167 : decode cX7_part 167 = .ok (.ireturn, 1) := dk_172 (dk_at dksX7_part_7 7 rfl rfl)
abbrev cX7_portLine : ByteArray := prog_20_method_37_code
def yX7_portLine : MethodName := ⟨RX7, "portLine", "()V"⟩
def dkwX7_portLine_6 : List UInt8 := [17, 3, 231, 182, 0, 179, 167, 0, 11, 42, 42, 180, 0, 76, 182, 0, 101, 177]
abbrev dktX7_portLine_6 : List UInt8 := dkwX7_portLine_6 ++ []
def dkwX7_portLine_5 : List UInt8 := [182, 0, 105, 153, 0, 30, 42, 180, 0, 7, 8, 46, 158, 0, 8, 42, 27, 182, 0, 101, 42, 16, 6, 3]
abbrev dktX7_portLine_5 : List UInt8 := dkwX7_portLine_5 ++ dktX7_portLine_6
def dkwX7_portLine_4 : List UInt8 := [42, 18, 182, 182, 0, 105, 153, 0, 15, 42, 16, 8, 3, 16, 100, 182, 0, 179, 167, 0, 47, 42, 18, 184]
abbrev dktX7_portLine_4 : List UInt8 := dkwX7_portLine_4 ++ dktX7_portLine_5
def dkwX7_portLine_3 : List UInt8 := [167, 0, 89, 42, 18, 177, 182, 0, 105, 153, 0, 15, 42, 16, 7, 3, 16, 9, 182, 0, 179, 167, 0, 68]
abbrev dktX7_portLine_3 : List UInt8 := dkwX7_portLine_3 ++ dktX7_portLine_4
def dkwX7_portLine_2 : List UInt8 := [153, 0, 11, 42, 27, 182, 0, 169, 167, 0, 105, 42, 18, 172, 182, 0, 105, 153, 0, 10, 42, 182, 0, 174]
abbrev dktX7_portLine_2 : List UInt8 := dkwX7_portLine_2 ++ dktX7_portLine_3
def dkwX7_portLine_1 : List UInt8 := [18, 126, 182, 0, 105, 153, 0, 11, 42, 27, 182, 0, 164, 167, 0, 122, 42, 18, 167, 182, 0, 105]
abbrev dktX7_portLine_1 : List UInt8 := dkwX7_portLine_1 ++ dktX7_portLine_2
def dkwX7_portLine_0 : List UInt8 := [42, 182, 0, 98, 60, 42, 18, 159, 182, 0, 105, 153, 0, 11, 42, 27, 182, 0, 161, 167, 0, 139, 42]
abbrev dktX7_portLine_0 : List UInt8 := dkwX7_portLine_0 ++ dktX7_portLine_1
theorem dksX7_portLine_0 : cX7_portLine.data.toList.drop 0 = dktX7_portLine_0 := by decide +kernel
theorem dksX7_portLine_1 : cX7_portLine.data.toList.drop 23 = dktX7_portLine_1 := dk_seg dksX7_portLine_0 23 rfl rfl
theorem dksX7_portLine_2 : cX7_portLine.data.toList.drop 45 = dktX7_portLine_2 := dk_seg dksX7_portLine_1 22 rfl rfl
theorem dksX7_portLine_3 : cX7_portLine.data.toList.drop 69 = dktX7_portLine_3 := dk_seg dksX7_portLine_2 24 rfl rfl
theorem dksX7_portLine_4 : cX7_portLine.data.toList.drop 93 = dktX7_portLine_4 := dk_seg dksX7_portLine_3 24 rfl rfl
theorem dksX7_portLine_5 : cX7_portLine.data.toList.drop 117 = dktX7_portLine_5 := dk_seg dksX7_portLine_4 24 rfl rfl
theorem dksX7_portLine_6 : cX7_portLine.data.toList.drop 141 = dktX7_portLine_6 := dk_seg dksX7_portLine_5 24 rfl rfl
theorem dX7_portLine_0 : decode cX7_portLine 0 = .ok (.aload_n 0, 1) := dk_42 (dk_at dksX7_portLine_0 0 rfl rfl)
theorem dX7_portLine_1 : decode cX7_portLine 1 = .ok (.invokevirtual 98, 3) := dk_182 0 98 (dk_at dksX7_portLine_0 1 rfl rfl)
theorem dX7_portLine_4 : decode cX7_portLine 4 = .ok (.istore_n 1, 1) := dk_60 (dk_at dksX7_portLine_0 4 rfl rfl)
theorem dX7_portLine_5 : decode cX7_portLine 5 = .ok (.aload_n 0, 1) := dk_42 (dk_at dksX7_portLine_0 5 rfl rfl)
theorem dX7_portLine_6 : decode cX7_portLine 6 = .ok (.ldc 159, 2) := dk_18 159 (dk_at dksX7_portLine_0 6 rfl rfl)
theorem dX7_portLine_8 : decode cX7_portLine 8 = .ok (.invokevirtual 105, 3) := dk_182 0 105 (dk_at dksX7_portLine_0 8 rfl rfl)
theorem dX7_portLine_11 : decode cX7_portLine 11 = .ok (.ifCond .eq 11, 3) := dk_153 0 11 (dk_at dksX7_portLine_0 11 rfl rfl)
theorem dX7_portLine_14 : decode cX7_portLine 14 = .ok (.aload_n 0, 1) := dk_42 (dk_at dksX7_portLine_0 14 rfl rfl)
theorem dX7_portLine_15 : decode cX7_portLine 15 = .ok (.iload_n 1, 1) := dk_27 (dk_at dksX7_portLine_0 15 rfl rfl)
theorem dX7_portLine_16 : decode cX7_portLine 16 = .ok (.invokevirtual 161, 3) := dk_182 0 161 (dk_at dksX7_portLine_0 16 rfl rfl)
theorem dX7_portLine_19 : decode cX7_portLine 19 = .ok (.goto 139, 3) := dk_167 0 139 (dk_at dksX7_portLine_0 19 rfl rfl)
theorem dX7_portLine_22 : decode cX7_portLine 22 = .ok (.aload_n 0, 1) := dk_42 (dk_at dksX7_portLine_0 22 rfl rfl)
theorem dX7_portLine_23 : decode cX7_portLine 23 = .ok (.ldc 126, 2) := dk_18 126 (dk_at dksX7_portLine_1 0 rfl rfl)
theorem dX7_portLine_25 : decode cX7_portLine 25 = .ok (.invokevirtual 105, 3) := dk_182 0 105 (dk_at dksX7_portLine_1 2 rfl rfl)
theorem dX7_portLine_28 : decode cX7_portLine 28 = .ok (.ifCond .eq 11, 3) := dk_153 0 11 (dk_at dksX7_portLine_1 5 rfl rfl)
theorem dX7_portLine_31 : decode cX7_portLine 31 = .ok (.aload_n 0, 1) := dk_42 (dk_at dksX7_portLine_1 8 rfl rfl)
theorem dX7_portLine_32 : decode cX7_portLine 32 = .ok (.iload_n 1, 1) := dk_27 (dk_at dksX7_portLine_1 9 rfl rfl)
theorem dX7_portLine_33 : decode cX7_portLine 33 = .ok (.invokevirtual 164, 3) := dk_182 0 164 (dk_at dksX7_portLine_1 10 rfl rfl)
theorem dX7_portLine_36 : decode cX7_portLine 36 = .ok (.goto 122, 3) := dk_167 0 122 (dk_at dksX7_portLine_1 13 rfl rfl)
theorem dX7_portLine_39 : decode cX7_portLine 39 = .ok (.aload_n 0, 1) := dk_42 (dk_at dksX7_portLine_1 16 rfl rfl)
theorem dX7_portLine_40 : decode cX7_portLine 40 = .ok (.ldc 167, 2) := dk_18 167 (dk_at dksX7_portLine_1 17 rfl rfl)
theorem dX7_portLine_42 : decode cX7_portLine 42 = .ok (.invokevirtual 105, 3) := dk_182 0 105 (dk_at dksX7_portLine_1 19 rfl rfl)
theorem dX7_portLine_45 : decode cX7_portLine 45 = .ok (.ifCond .eq 11, 3) := dk_153 0 11 (dk_at dksX7_portLine_2 0 rfl rfl)
theorem dX7_portLine_48 : decode cX7_portLine 48 = .ok (.aload_n 0, 1) := dk_42 (dk_at dksX7_portLine_2 3 rfl rfl)
theorem dX7_portLine_49 : decode cX7_portLine 49 = .ok (.iload_n 1, 1) := dk_27 (dk_at dksX7_portLine_2 4 rfl rfl)
theorem dX7_portLine_50 : decode cX7_portLine 50 = .ok (.invokevirtual 169, 3) := dk_182 0 169 (dk_at dksX7_portLine_2 5 rfl rfl)
theorem dX7_portLine_53 : decode cX7_portLine 53 = .ok (.goto 105, 3) := dk_167 0 105 (dk_at dksX7_portLine_2 8 rfl rfl)
theorem dX7_portLine_56 : decode cX7_portLine 56 = .ok (.aload_n 0, 1) := dk_42 (dk_at dksX7_portLine_2 11 rfl rfl)
theorem dX7_portLine_57 : decode cX7_portLine 57 = .ok (.ldc 172, 2) := dk_18 172 (dk_at dksX7_portLine_2 12 rfl rfl)
theorem dX7_portLine_59 : decode cX7_portLine 59 = .ok (.invokevirtual 105, 3) := dk_182 0 105 (dk_at dksX7_portLine_2 14 rfl rfl)
theorem dX7_portLine_62 : decode cX7_portLine 62 = .ok (.ifCond .eq 10, 3) := dk_153 0 10 (dk_at dksX7_portLine_2 17 rfl rfl)
theorem dX7_portLine_65 : decode cX7_portLine 65 = .ok (.aload_n 0, 1) := dk_42 (dk_at dksX7_portLine_2 20 rfl rfl)
theorem dX7_portLine_66 : decode cX7_portLine 66 = .ok (.invokevirtual 174, 3) := dk_182 0 174 (dk_at dksX7_portLine_2 21 rfl rfl)
theorem dX7_portLine_69 : decode cX7_portLine 69 = .ok (.goto 89, 3) := dk_167 0 89 (dk_at dksX7_portLine_3 0 rfl rfl)
theorem dX7_portLine_72 : decode cX7_portLine 72 = .ok (.aload_n 0, 1) := dk_42 (dk_at dksX7_portLine_3 3 rfl rfl)
theorem dX7_portLine_73 : decode cX7_portLine 73 = .ok (.ldc 177, 2) := dk_18 177 (dk_at dksX7_portLine_3 4 rfl rfl)
theorem dX7_portLine_75 : decode cX7_portLine 75 = .ok (.invokevirtual 105, 3) := dk_182 0 105 (dk_at dksX7_portLine_3 6 rfl rfl)
theorem dX7_portLine_78 : decode cX7_portLine 78 = .ok (.ifCond .eq 15, 3) := dk_153 0 15 (dk_at dksX7_portLine_3 9 rfl rfl)
theorem dX7_portLine_81 : decode cX7_portLine 81 = .ok (.aload_n 0, 1) := dk_42 (dk_at dksX7_portLine_3 12 rfl rfl)
theorem dX7_portLine_82 : decode cX7_portLine 82 = .ok (.bipush 7, 2) := dk_16 7 (dk_at dksX7_portLine_3 13 rfl rfl)
theorem dX7_portLine_84 : decode cX7_portLine 84 = .ok (.iconst 0, 1) := dk_3 (dk_at dksX7_portLine_3 15 rfl rfl)
theorem dX7_portLine_85 : decode cX7_portLine 85 = .ok (.bipush 9, 2) := dk_16 9 (dk_at dksX7_portLine_3 16 rfl rfl)
theorem dX7_portLine_87 : decode cX7_portLine 87 = .ok (.invokevirtual 179, 3) := dk_182 0 179 (dk_at dksX7_portLine_3 18 rfl rfl)
theorem dX7_portLine_90 : decode cX7_portLine 90 = .ok (.goto 68, 3) := dk_167 0 68 (dk_at dksX7_portLine_3 21 rfl rfl)
theorem dX7_portLine_93 : decode cX7_portLine 93 = .ok (.aload_n 0, 1) := dk_42 (dk_at dksX7_portLine_4 0 rfl rfl)
theorem dX7_portLine_94 : decode cX7_portLine 94 = .ok (.ldc 182, 2) := dk_18 182 (dk_at dksX7_portLine_4 1 rfl rfl)
theorem dX7_portLine_96 : decode cX7_portLine 96 = .ok (.invokevirtual 105, 3) := dk_182 0 105 (dk_at dksX7_portLine_4 3 rfl rfl)
theorem dX7_portLine_99 : decode cX7_portLine 99 = .ok (.ifCond .eq 15, 3) := dk_153 0 15 (dk_at dksX7_portLine_4 6 rfl rfl)
theorem dX7_portLine_102 : decode cX7_portLine 102 = .ok (.aload_n 0, 1) := dk_42 (dk_at dksX7_portLine_4 9 rfl rfl)
theorem dX7_portLine_103 : decode cX7_portLine 103 = .ok (.bipush 8, 2) := dk_16 8 (dk_at dksX7_portLine_4 10 rfl rfl)
theorem dX7_portLine_105 : decode cX7_portLine 105 = .ok (.iconst 0, 1) := dk_3 (dk_at dksX7_portLine_4 12 rfl rfl)
theorem dX7_portLine_106 : decode cX7_portLine 106 = .ok (.bipush 100, 2) := dk_16 100 (dk_at dksX7_portLine_4 13 rfl rfl)
theorem dX7_portLine_108 : decode cX7_portLine 108 = .ok (.invokevirtual 179, 3) := dk_182 0 179 (dk_at dksX7_portLine_4 15 rfl rfl)
theorem dX7_portLine_111 : decode cX7_portLine 111 = .ok (.goto 47, 3) := dk_167 0 47 (dk_at dksX7_portLine_4 18 rfl rfl)
theorem dX7_portLine_114 : decode cX7_portLine 114 = .ok (.aload_n 0, 1) := dk_42 (dk_at dksX7_portLine_4 21 rfl rfl)
theorem dX7_portLine_115 : decode cX7_portLine 115 = .ok (.ldc 184, 2) := dk_18 184 (dk_at dksX7_portLine_4 22 rfl rfl)
theorem dX7_portLine_117 : decode cX7_portLine 117 = .ok (.invokevirtual 105, 3) := dk_182 0 105 (dk_at dksX7_portLine_5 0 rfl rfl)
theorem dX7_portLine_120 : decode cX7_portLine 120 = .ok (.ifCond .eq 30, 3) := dk_153 0 30 (dk_at dksX7_portLine_5 3 rfl rfl)
theorem dX7_portLine_123 : decode cX7_portLine 123 = .ok (.aload_n 0, 1) := dk_42 (dk_at dksX7_portLine_5 6 rfl rfl)
theorem dX7_portLine_124 : decode cX7_portLine 124 = .ok (.getfield 7, 3) := dk_180 0 7 (dk_at dksX7_portLine_5 7 rfl rfl)
theorem dX7_portLine_127 : decode cX7_portLine 127 = .ok (.iconst 5, 1) := dk_8 (dk_at dksX7_portLine_5 10 rfl rfl)
theorem dX7_portLine_128 : decode cX7_portLine 128 = .ok (.iaload, 1) := dk_46 (dk_at dksX7_portLine_5 11 rfl rfl)
theorem dX7_portLine_129 : decode cX7_portLine 129 = .ok (.ifCond .le 8, 3) := dk_158 0 8 (dk_at dksX7_portLine_5 12 rfl rfl)
theorem dX7_portLine_132 : decode cX7_portLine 132 = .ok (.aload_n 0, 1) := dk_42 (dk_at dksX7_portLine_5 15 rfl rfl)
theorem dX7_portLine_133 : decode cX7_portLine 133 = .ok (.iload_n 1, 1) := dk_27 (dk_at dksX7_portLine_5 16 rfl rfl)
theorem dX7_portLine_134 : decode cX7_portLine 134 = .ok (.invokevirtual 101, 3) := dk_182 0 101 (dk_at dksX7_portLine_5 17 rfl rfl)
theorem dX7_portLine_137 : decode cX7_portLine 137 = .ok (.aload_n 0, 1) := dk_42 (dk_at dksX7_portLine_5 20 rfl rfl)
theorem dX7_portLine_138 : decode cX7_portLine 138 = .ok (.bipush 6, 2) := dk_16 6 (dk_at dksX7_portLine_5 21 rfl rfl)
theorem dX7_portLine_140 : decode cX7_portLine 140 = .ok (.iconst 0, 1) := dk_3 (dk_at dksX7_portLine_5 23 rfl rfl)
theorem dX7_portLine_141 : decode cX7_portLine 141 = .ok (.sipush 999, 3) := dk_17 3 231 (dk_at dksX7_portLine_6 0 rfl rfl)
theorem dX7_portLine_144 : decode cX7_portLine 144 = .ok (.invokevirtual 179, 3) := dk_182 0 179 (dk_at dksX7_portLine_6 3 rfl rfl)
theorem dX7_portLine_147 : decode cX7_portLine 147 = .ok (.goto 11, 3) := dk_167 0 11 (dk_at dksX7_portLine_6 6 rfl rfl)
theorem dX7_portLine_150 : decode cX7_portLine 150 = .ok (.aload_n 0, 1) := dk_42 (dk_at dksX7_portLine_6 9 rfl rfl)
theorem dX7_portLine_151 : decode cX7_portLine 151 = .ok (.aload_n 0, 1) := dk_42 (dk_at dksX7_portLine_6 10 rfl rfl)
theorem dX7_portLine_152 : decode cX7_portLine 152 = .ok (.getfield 76, 3) := dk_180 0 76 (dk_at dksX7_portLine_6 11 rfl rfl)
theorem dX7_portLine_155 : decode cX7_portLine 155 = .ok (.invokevirtual 101, 3) := dk_182 0 101 (dk_at dksX7_portLine_6 14 rfl rfl)
theorem dX7_portLine_158 : decode cX7_portLine 158 = .ok (.return_, 1) := dk_177 (dk_at dksX7_portLine_6 17 rfl rfl)
abbrev cX7_partyLine : ByteArray := prog_20_method_29_code
def yX7_partyLine : MethodName := ⟨RX7, "partyLine", "(I)V"⟩
def dkwX7_partyLine_3 : List UInt8 := [180, 0, 7, 6, 92, 46, 4, 96, 79, 177]
abbrev dktX7_partyLine_3 : List UInt8 := dkwX7_partyLine_3 ++ []
def dkwX7_partyLine_2 : List UInt8 := [96, 28, 79, 42, 180, 0, 7, 16, 15, 5, 42, 180, 0, 7, 6, 46, 104, 96, 4, 96, 3, 79, 42]
abbrev dktX7_partyLine_2 : List UInt8 := dkwX7_partyLine_2 ++ dktX7_partyLine_3
def dkwX7_partyLine_1 : List UInt8 := [61, 42, 180, 0, 25, 2, 159, 0, 4, 177, 42, 180, 0, 7, 16, 15, 5, 42, 180, 0, 7, 6, 46, 104]
abbrev dktX7_partyLine_1 : List UInt8 := dkwX7_partyLine_1 ++ dktX7_partyLine_2
def dkwX7_partyLine_0 : List UInt8 := [42, 180, 0, 7, 6, 46, 16, 6, 160, 0, 8, 42, 27, 182, 0, 101, 42, 3, 17, 3, 231, 182, 0, 109]
abbrev dktX7_partyLine_0 : List UInt8 := dkwX7_partyLine_0 ++ dktX7_partyLine_1
theorem dksX7_partyLine_0 : cX7_partyLine.data.toList.drop 0 = dktX7_partyLine_0 := by decide +kernel
theorem dksX7_partyLine_1 : cX7_partyLine.data.toList.drop 24 = dktX7_partyLine_1 := dk_seg dksX7_partyLine_0 24 rfl rfl
theorem dksX7_partyLine_2 : cX7_partyLine.data.toList.drop 48 = dktX7_partyLine_2 := dk_seg dksX7_partyLine_1 24 rfl rfl
theorem dksX7_partyLine_3 : cX7_partyLine.data.toList.drop 71 = dktX7_partyLine_3 := dk_seg dksX7_partyLine_2 23 rfl rfl
theorem dX7_partyLine_0 : decode cX7_partyLine 0 = .ok (.aload_n 0, 1) := dk_42 (dk_at dksX7_partyLine_0 0 rfl rfl)
theorem dX7_partyLine_1 : decode cX7_partyLine 1 = .ok (.getfield 7, 3) := dk_180 0 7 (dk_at dksX7_partyLine_0 1 rfl rfl)
theorem dX7_partyLine_4 : decode cX7_partyLine 4 = .ok (.iconst 3, 1) := dk_6 (dk_at dksX7_partyLine_0 4 rfl rfl)
theorem dX7_partyLine_5 : decode cX7_partyLine 5 = .ok (.iaload, 1) := dk_46 (dk_at dksX7_partyLine_0 5 rfl rfl)
theorem dX7_partyLine_6 : decode cX7_partyLine 6 = .ok (.bipush 6, 2) := dk_16 6 (dk_at dksX7_partyLine_0 6 rfl rfl)
theorem dX7_partyLine_8 : decode cX7_partyLine 8 = .ok (.if_icmp .ne 8, 3) := dk_160 0 8 (dk_at dksX7_partyLine_0 8 rfl rfl)
theorem dX7_partyLine_11 : decode cX7_partyLine 11 = .ok (.aload_n 0, 1) := dk_42 (dk_at dksX7_partyLine_0 11 rfl rfl)
theorem dX7_partyLine_12 : decode cX7_partyLine 12 = .ok (.iload_n 1, 1) := dk_27 (dk_at dksX7_partyLine_0 12 rfl rfl)
theorem dX7_partyLine_13 : decode cX7_partyLine 13 = .ok (.invokevirtual 101, 3) := dk_182 0 101 (dk_at dksX7_partyLine_0 13 rfl rfl)
theorem dX7_partyLine_16 : decode cX7_partyLine 16 = .ok (.aload_n 0, 1) := dk_42 (dk_at dksX7_partyLine_0 16 rfl rfl)
theorem dX7_partyLine_17 : decode cX7_partyLine 17 = .ok (.iconst 0, 1) := dk_3 (dk_at dksX7_partyLine_0 17 rfl rfl)
theorem dX7_partyLine_18 : decode cX7_partyLine 18 = .ok (.sipush 999, 3) := dk_17 3 231 (dk_at dksX7_partyLine_0 18 rfl rfl)
theorem dX7_partyLine_21 : decode cX7_partyLine 21 = .ok (.invokevirtual 109, 3) := dk_182 0 109 (dk_at dksX7_partyLine_0 21 rfl rfl)
theorem dX7_partyLine_24 : decode cX7_partyLine 24 = .ok (.istore_n 2, 1) := dk_61 (dk_at dksX7_partyLine_1 0 rfl rfl)
theorem dX7_partyLine_25 : decode cX7_partyLine 25 = .ok (.aload_n 0, 1) := dk_42 (dk_at dksX7_partyLine_1 1 rfl rfl)
theorem dX7_partyLine_26 : decode cX7_partyLine 26 = .ok (.getfield 25, 3) := dk_180 0 25 (dk_at dksX7_partyLine_1 2 rfl rfl)
theorem dX7_partyLine_29 : decode cX7_partyLine 29 = .ok (.iconst (-1), 1) := dk_2 (dk_at dksX7_partyLine_1 5 rfl rfl)
theorem dX7_partyLine_30 : decode cX7_partyLine 30 = .ok (.if_icmp .eq 4, 3) := dk_159 0 4 (dk_at dksX7_partyLine_1 6 rfl rfl)
theorem dX7_partyLine_33 : decode cX7_partyLine 33 = .ok (.return_, 1) := dk_177 (dk_at dksX7_partyLine_1 9 rfl rfl)
theorem dX7_partyLine_34 : decode cX7_partyLine 34 = .ok (.aload_n 0, 1) := dk_42 (dk_at dksX7_partyLine_1 10 rfl rfl)
theorem dX7_partyLine_35 : decode cX7_partyLine 35 = .ok (.getfield 7, 3) := dk_180 0 7 (dk_at dksX7_partyLine_1 11 rfl rfl)
theorem dX7_partyLine_38 : decode cX7_partyLine 38 = .ok (.bipush 15, 2) := dk_16 15 (dk_at dksX7_partyLine_1 14 rfl rfl)
theorem dX7_partyLine_40 : decode cX7_partyLine 40 = .ok (.iconst 2, 1) := dk_5 (dk_at dksX7_partyLine_1 16 rfl rfl)
theorem dX7_partyLine_41 : decode cX7_partyLine 41 = .ok (.aload_n 0, 1) := dk_42 (dk_at dksX7_partyLine_1 17 rfl rfl)
theorem dX7_partyLine_42 : decode cX7_partyLine 42 = .ok (.getfield 7, 3) := dk_180 0 7 (dk_at dksX7_partyLine_1 18 rfl rfl)
theorem dX7_partyLine_45 : decode cX7_partyLine 45 = .ok (.iconst 3, 1) := dk_6 (dk_at dksX7_partyLine_1 21 rfl rfl)
theorem dX7_partyLine_46 : decode cX7_partyLine 46 = .ok (.iaload, 1) := dk_46 (dk_at dksX7_partyLine_1 22 rfl rfl)
theorem dX7_partyLine_47 : decode cX7_partyLine 47 = .ok (.imul, 1) := dk_104 (dk_at dksX7_partyLine_1 23 rfl rfl)
theorem dX7_partyLine_48 : decode cX7_partyLine 48 = .ok (.iadd, 1) := dk_96 (dk_at dksX7_partyLine_2 0 rfl rfl)
theorem dX7_partyLine_49 : decode cX7_partyLine 49 = .ok (.iload_n 2, 1) := dk_28 (dk_at dksX7_partyLine_2 1 rfl rfl)
theorem dX7_partyLine_50 : decode cX7_partyLine 50 = .ok (.iastore, 1) := dk_79 (dk_at dksX7_partyLine_2 2 rfl rfl)
theorem dX7_partyLine_51 : decode cX7_partyLine 51 = .ok (.aload_n 0, 1) := dk_42 (dk_at dksX7_partyLine_2 3 rfl rfl)
theorem dX7_partyLine_52 : decode cX7_partyLine 52 = .ok (.getfield 7, 3) := dk_180 0 7 (dk_at dksX7_partyLine_2 4 rfl rfl)
theorem dX7_partyLine_55 : decode cX7_partyLine 55 = .ok (.bipush 15, 2) := dk_16 15 (dk_at dksX7_partyLine_2 7 rfl rfl)
theorem dX7_partyLine_57 : decode cX7_partyLine 57 = .ok (.iconst 2, 1) := dk_5 (dk_at dksX7_partyLine_2 9 rfl rfl)
theorem dX7_partyLine_58 : decode cX7_partyLine 58 = .ok (.aload_n 0, 1) := dk_42 (dk_at dksX7_partyLine_2 10 rfl rfl)
theorem dX7_partyLine_59 : decode cX7_partyLine 59 = .ok (.getfield 7, 3) := dk_180 0 7 (dk_at dksX7_partyLine_2 11 rfl rfl)
theorem dX7_partyLine_62 : decode cX7_partyLine 62 = .ok (.iconst 3, 1) := dk_6 (dk_at dksX7_partyLine_2 14 rfl rfl)
theorem dX7_partyLine_63 : decode cX7_partyLine 63 = .ok (.iaload, 1) := dk_46 (dk_at dksX7_partyLine_2 15 rfl rfl)
theorem dX7_partyLine_64 : decode cX7_partyLine 64 = .ok (.imul, 1) := dk_104 (dk_at dksX7_partyLine_2 16 rfl rfl)
theorem dX7_partyLine_65 : decode cX7_partyLine 65 = .ok (.iadd, 1) := dk_96 (dk_at dksX7_partyLine_2 17 rfl rfl)
theorem dX7_partyLine_66 : decode cX7_partyLine 66 = .ok (.iconst 1, 1) := dk_4 (dk_at dksX7_partyLine_2 18 rfl rfl)
theorem dX7_partyLine_67 : decode cX7_partyLine 67 = .ok (.iadd, 1) := dk_96 (dk_at dksX7_partyLine_2 19 rfl rfl)
theorem dX7_partyLine_68 : decode cX7_partyLine 68 = .ok (.iconst 0, 1) := dk_3 (dk_at dksX7_partyLine_2 20 rfl rfl)
theorem dX7_partyLine_69 : decode cX7_partyLine 69 = .ok (.iastore, 1) := dk_79 (dk_at dksX7_partyLine_2 21 rfl rfl)
theorem dX7_partyLine_70 : decode cX7_partyLine 70 = .ok (.aload_n 0, 1) := dk_42 (dk_at dksX7_partyLine_2 22 rfl rfl)
theorem dX7_partyLine_71 : decode cX7_partyLine 71 = .ok (.getfield 7, 3) := dk_180 0 7 (dk_at dksX7_partyLine_3 0 rfl rfl)
theorem dX7_partyLine_74 : decode cX7_partyLine 74 = .ok (.iconst 3, 1) := dk_6 (dk_at dksX7_partyLine_3 3 rfl rfl)
theorem dX7_partyLine_75 : decode cX7_partyLine 75 = .ok (.dup2, 1) := dk_92 (dk_at dksX7_partyLine_3 4 rfl rfl)
theorem dX7_partyLine_76 : decode cX7_partyLine 76 = .ok (.iaload, 1) := dk_46 (dk_at dksX7_partyLine_3 5 rfl rfl)
theorem dX7_partyLine_77 : decode cX7_partyLine 77 = .ok (.iconst 1, 1) := dk_4 (dk_at dksX7_partyLine_3 6 rfl rfl)
theorem dX7_partyLine_78 : decode cX7_partyLine 78 = .ok (.iadd, 1) := dk_96 (dk_at dksX7_partyLine_3 7 rfl rfl)
theorem dX7_partyLine_79 : decode cX7_partyLine 79 = .ok (.iastore, 1) := dk_79 (dk_at dksX7_partyLine_3 8 rfl rfl)
theorem dX7_partyLine_80 : decode cX7_partyLine 80 = .ok (.return_, 1) := dk_177 (dk_at dksX7_partyLine_3 9 rfl rfl)
abbrev cX7_inkLine : ByteArray := prog_20_method_31_code
def yX7_inkLine : MethodName := ⟨RX7, "inkLine", "(I)V"⟩
def dkwX7_inkLine_4 : List UInt8 := [180, 0, 7, 21, 5, 5, 96, 21, 4, 79, 42, 180, 0, 7, 7, 92, 46, 4, 96, 79, 177]
abbrev dktX7_inkLine_4 : List UInt8 := dkwX7_inkLine_4 ++ []
def dkwX7_inkLine_3 : List UInt8 := [96, 54, 5, 42, 180, 0, 7, 21, 5, 3, 96, 28, 79, 42, 180, 0, 7, 21, 5, 4, 96, 29, 79, 42]
abbrev dktX7_inkLine_3 : List UInt8 := dkwX7_inkLine_3 ++ dktX7_inkLine_4
def dkwX7_inkLine_2 : List UInt8 := [182, 0, 120, 54, 4, 42, 180, 0, 25, 2, 159, 0, 4, 177, 16, 27, 6, 42, 180, 0, 7, 7, 46, 104]
abbrev dktX7_inkLine_2 : List UInt8 := dkwX7_inkLine_2 ++ dktX7_inkLine_3
def dkwX7_inkLine_1 : List UInt8 := [182, 0, 114, 61, 42, 18, 118, 3, 16, 99, 3, 182, 0, 120, 62, 42, 18, 124, 3, 16, 9, 3]
abbrev dktX7_inkLine_1 : List UInt8 := dkwX7_inkLine_1 ++ dktX7_inkLine_2
def dkwX7_inkLine_0 : List UInt8 := [42, 180, 0, 7, 7, 46, 16, 6, 160, 0, 8, 42, 27, 182, 0, 101, 42, 18, 112, 4, 16, 99]
abbrev dktX7_inkLine_0 : List UInt8 := dkwX7_inkLine_0 ++ dktX7_inkLine_1
theorem dksX7_inkLine_0 : cX7_inkLine.data.toList.drop 0 = dktX7_inkLine_0 := by decide +kernel
theorem dksX7_inkLine_1 : cX7_inkLine.data.toList.drop 22 = dktX7_inkLine_1 := dk_seg dksX7_inkLine_0 22 rfl rfl
theorem dksX7_inkLine_2 : cX7_inkLine.data.toList.drop 44 = dktX7_inkLine_2 := dk_seg dksX7_inkLine_1 22 rfl rfl
theorem dksX7_inkLine_3 : cX7_inkLine.data.toList.drop 68 = dktX7_inkLine_3 := dk_seg dksX7_inkLine_2 24 rfl rfl
theorem dksX7_inkLine_4 : cX7_inkLine.data.toList.drop 92 = dktX7_inkLine_4 := dk_seg dksX7_inkLine_3 24 rfl rfl
theorem dX7_inkLine_0 : decode cX7_inkLine 0 = .ok (.aload_n 0, 1) := dk_42 (dk_at dksX7_inkLine_0 0 rfl rfl)
theorem dX7_inkLine_1 : decode cX7_inkLine 1 = .ok (.getfield 7, 3) := dk_180 0 7 (dk_at dksX7_inkLine_0 1 rfl rfl)
theorem dX7_inkLine_4 : decode cX7_inkLine 4 = .ok (.iconst 4, 1) := dk_7 (dk_at dksX7_inkLine_0 4 rfl rfl)
theorem dX7_inkLine_5 : decode cX7_inkLine 5 = .ok (.iaload, 1) := dk_46 (dk_at dksX7_inkLine_0 5 rfl rfl)
theorem dX7_inkLine_6 : decode cX7_inkLine 6 = .ok (.bipush 6, 2) := dk_16 6 (dk_at dksX7_inkLine_0 6 rfl rfl)
theorem dX7_inkLine_8 : decode cX7_inkLine 8 = .ok (.if_icmp .ne 8, 3) := dk_160 0 8 (dk_at dksX7_inkLine_0 8 rfl rfl)
theorem dX7_inkLine_11 : decode cX7_inkLine 11 = .ok (.aload_n 0, 1) := dk_42 (dk_at dksX7_inkLine_0 11 rfl rfl)
theorem dX7_inkLine_12 : decode cX7_inkLine 12 = .ok (.iload_n 1, 1) := dk_27 (dk_at dksX7_inkLine_0 12 rfl rfl)
theorem dX7_inkLine_13 : decode cX7_inkLine 13 = .ok (.invokevirtual 101, 3) := dk_182 0 101 (dk_at dksX7_inkLine_0 13 rfl rfl)
theorem dX7_inkLine_16 : decode cX7_inkLine 16 = .ok (.aload_n 0, 1) := dk_42 (dk_at dksX7_inkLine_0 16 rfl rfl)
theorem dX7_inkLine_17 : decode cX7_inkLine 17 = .ok (.ldc 112, 2) := dk_18 112 (dk_at dksX7_inkLine_0 17 rfl rfl)
theorem dX7_inkLine_19 : decode cX7_inkLine 19 = .ok (.iconst 1, 1) := dk_4 (dk_at dksX7_inkLine_0 19 rfl rfl)
theorem dX7_inkLine_20 : decode cX7_inkLine 20 = .ok (.bipush 99, 2) := dk_16 99 (dk_at dksX7_inkLine_0 20 rfl rfl)
theorem dX7_inkLine_22 : decode cX7_inkLine 22 = .ok (.invokevirtual 114, 3) := dk_182 0 114 (dk_at dksX7_inkLine_1 0 rfl rfl)
theorem dX7_inkLine_25 : decode cX7_inkLine 25 = .ok (.istore_n 2, 1) := dk_61 (dk_at dksX7_inkLine_1 3 rfl rfl)
theorem dX7_inkLine_26 : decode cX7_inkLine 26 = .ok (.aload_n 0, 1) := dk_42 (dk_at dksX7_inkLine_1 4 rfl rfl)
theorem dX7_inkLine_27 : decode cX7_inkLine 27 = .ok (.ldc 118, 2) := dk_18 118 (dk_at dksX7_inkLine_1 5 rfl rfl)
theorem dX7_inkLine_29 : decode cX7_inkLine 29 = .ok (.iconst 0, 1) := dk_3 (dk_at dksX7_inkLine_1 7 rfl rfl)
theorem dX7_inkLine_30 : decode cX7_inkLine 30 = .ok (.bipush 99, 2) := dk_16 99 (dk_at dksX7_inkLine_1 8 rfl rfl)
theorem dX7_inkLine_32 : decode cX7_inkLine 32 = .ok (.iconst 0, 1) := dk_3 (dk_at dksX7_inkLine_1 10 rfl rfl)
theorem dX7_inkLine_33 : decode cX7_inkLine 33 = .ok (.invokevirtual 120, 3) := dk_182 0 120 (dk_at dksX7_inkLine_1 11 rfl rfl)
theorem dX7_inkLine_36 : decode cX7_inkLine 36 = .ok (.istore_n 3, 1) := dk_62 (dk_at dksX7_inkLine_1 14 rfl rfl)
theorem dX7_inkLine_37 : decode cX7_inkLine 37 = .ok (.aload_n 0, 1) := dk_42 (dk_at dksX7_inkLine_1 15 rfl rfl)
theorem dX7_inkLine_38 : decode cX7_inkLine 38 = .ok (.ldc 124, 2) := dk_18 124 (dk_at dksX7_inkLine_1 16 rfl rfl)
theorem dX7_inkLine_40 : decode cX7_inkLine 40 = .ok (.iconst 0, 1) := dk_3 (dk_at dksX7_inkLine_1 18 rfl rfl)
theorem dX7_inkLine_41 : decode cX7_inkLine 41 = .ok (.bipush 9, 2) := dk_16 9 (dk_at dksX7_inkLine_1 19 rfl rfl)
theorem dX7_inkLine_43 : decode cX7_inkLine 43 = .ok (.iconst 0, 1) := dk_3 (dk_at dksX7_inkLine_1 21 rfl rfl)
theorem dX7_inkLine_44 : decode cX7_inkLine 44 = .ok (.invokevirtual 120, 3) := dk_182 0 120 (dk_at dksX7_inkLine_2 0 rfl rfl)
theorem dX7_inkLine_47 : decode cX7_inkLine 47 = .ok (.istore 4, 2) := dk_54 4 (dk_at dksX7_inkLine_2 3 rfl rfl)
theorem dX7_inkLine_49 : decode cX7_inkLine 49 = .ok (.aload_n 0, 1) := dk_42 (dk_at dksX7_inkLine_2 5 rfl rfl)
theorem dX7_inkLine_50 : decode cX7_inkLine 50 = .ok (.getfield 25, 3) := dk_180 0 25 (dk_at dksX7_inkLine_2 6 rfl rfl)
theorem dX7_inkLine_53 : decode cX7_inkLine 53 = .ok (.iconst (-1), 1) := dk_2 (dk_at dksX7_inkLine_2 9 rfl rfl)
theorem dX7_inkLine_54 : decode cX7_inkLine 54 = .ok (.if_icmp .eq 4, 3) := dk_159 0 4 (dk_at dksX7_inkLine_2 10 rfl rfl)
theorem dX7_inkLine_57 : decode cX7_inkLine 57 = .ok (.return_, 1) := dk_177 (dk_at dksX7_inkLine_2 13 rfl rfl)
theorem dX7_inkLine_58 : decode cX7_inkLine 58 = .ok (.bipush 27, 2) := dk_16 27 (dk_at dksX7_inkLine_2 14 rfl rfl)
theorem dX7_inkLine_60 : decode cX7_inkLine 60 = .ok (.iconst 3, 1) := dk_6 (dk_at dksX7_inkLine_2 16 rfl rfl)
theorem dX7_inkLine_61 : decode cX7_inkLine 61 = .ok (.aload_n 0, 1) := dk_42 (dk_at dksX7_inkLine_2 17 rfl rfl)
theorem dX7_inkLine_62 : decode cX7_inkLine 62 = .ok (.getfield 7, 3) := dk_180 0 7 (dk_at dksX7_inkLine_2 18 rfl rfl)
theorem dX7_inkLine_65 : decode cX7_inkLine 65 = .ok (.iconst 4, 1) := dk_7 (dk_at dksX7_inkLine_2 21 rfl rfl)
theorem dX7_inkLine_66 : decode cX7_inkLine 66 = .ok (.iaload, 1) := dk_46 (dk_at dksX7_inkLine_2 22 rfl rfl)
theorem dX7_inkLine_67 : decode cX7_inkLine 67 = .ok (.imul, 1) := dk_104 (dk_at dksX7_inkLine_2 23 rfl rfl)
theorem dX7_inkLine_68 : decode cX7_inkLine 68 = .ok (.iadd, 1) := dk_96 (dk_at dksX7_inkLine_3 0 rfl rfl)
theorem dX7_inkLine_69 : decode cX7_inkLine 69 = .ok (.istore 5, 2) := dk_54 5 (dk_at dksX7_inkLine_3 1 rfl rfl)
theorem dX7_inkLine_71 : decode cX7_inkLine 71 = .ok (.aload_n 0, 1) := dk_42 (dk_at dksX7_inkLine_3 3 rfl rfl)
theorem dX7_inkLine_72 : decode cX7_inkLine 72 = .ok (.getfield 7, 3) := dk_180 0 7 (dk_at dksX7_inkLine_3 4 rfl rfl)
theorem dX7_inkLine_75 : decode cX7_inkLine 75 = .ok (.iload 5, 2) := dk_21 5 (dk_at dksX7_inkLine_3 7 rfl rfl)
theorem dX7_inkLine_77 : decode cX7_inkLine 77 = .ok (.iconst 0, 1) := dk_3 (dk_at dksX7_inkLine_3 9 rfl rfl)
theorem dX7_inkLine_78 : decode cX7_inkLine 78 = .ok (.iadd, 1) := dk_96 (dk_at dksX7_inkLine_3 10 rfl rfl)
theorem dX7_inkLine_79 : decode cX7_inkLine 79 = .ok (.iload_n 2, 1) := dk_28 (dk_at dksX7_inkLine_3 11 rfl rfl)
theorem dX7_inkLine_80 : decode cX7_inkLine 80 = .ok (.iastore, 1) := dk_79 (dk_at dksX7_inkLine_3 12 rfl rfl)
theorem dX7_inkLine_81 : decode cX7_inkLine 81 = .ok (.aload_n 0, 1) := dk_42 (dk_at dksX7_inkLine_3 13 rfl rfl)
theorem dX7_inkLine_82 : decode cX7_inkLine 82 = .ok (.getfield 7, 3) := dk_180 0 7 (dk_at dksX7_inkLine_3 14 rfl rfl)
theorem dX7_inkLine_85 : decode cX7_inkLine 85 = .ok (.iload 5, 2) := dk_21 5 (dk_at dksX7_inkLine_3 17 rfl rfl)
theorem dX7_inkLine_87 : decode cX7_inkLine 87 = .ok (.iconst 1, 1) := dk_4 (dk_at dksX7_inkLine_3 19 rfl rfl)
theorem dX7_inkLine_88 : decode cX7_inkLine 88 = .ok (.iadd, 1) := dk_96 (dk_at dksX7_inkLine_3 20 rfl rfl)
theorem dX7_inkLine_89 : decode cX7_inkLine 89 = .ok (.iload_n 3, 1) := dk_29 (dk_at dksX7_inkLine_3 21 rfl rfl)
theorem dX7_inkLine_90 : decode cX7_inkLine 90 = .ok (.iastore, 1) := dk_79 (dk_at dksX7_inkLine_3 22 rfl rfl)
theorem dX7_inkLine_91 : decode cX7_inkLine 91 = .ok (.aload_n 0, 1) := dk_42 (dk_at dksX7_inkLine_3 23 rfl rfl)
theorem dX7_inkLine_92 : decode cX7_inkLine 92 = .ok (.getfield 7, 3) := dk_180 0 7 (dk_at dksX7_inkLine_4 0 rfl rfl)
theorem dX7_inkLine_95 : decode cX7_inkLine 95 = .ok (.iload 5, 2) := dk_21 5 (dk_at dksX7_inkLine_4 3 rfl rfl)
theorem dX7_inkLine_97 : decode cX7_inkLine 97 = .ok (.iconst 2, 1) := dk_5 (dk_at dksX7_inkLine_4 5 rfl rfl)
theorem dX7_inkLine_98 : decode cX7_inkLine 98 = .ok (.iadd, 1) := dk_96 (dk_at dksX7_inkLine_4 6 rfl rfl)
theorem dX7_inkLine_99 : decode cX7_inkLine 99 = .ok (.iload 4, 2) := dk_21 4 (dk_at dksX7_inkLine_4 7 rfl rfl)
theorem dX7_inkLine_101 : decode cX7_inkLine 101 = .ok (.iastore, 1) := dk_79 (dk_at dksX7_inkLine_4 9 rfl rfl)
theorem dX7_inkLine_102 : decode cX7_inkLine 102 = .ok (.aload_n 0, 1) := dk_42 (dk_at dksX7_inkLine_4 10 rfl rfl)
theorem dX7_inkLine_103 : decode cX7_inkLine 103 = .ok (.getfield 7, 3) := dk_180 0 7 (dk_at dksX7_inkLine_4 11 rfl rfl)
theorem dX7_inkLine_106 : decode cX7_inkLine 106 = .ok (.iconst 4, 1) := dk_7 (dk_at dksX7_inkLine_4 14 rfl rfl)
theorem dX7_inkLine_107 : decode cX7_inkLine 107 = .ok (.dup2, 1) := dk_92 (dk_at dksX7_inkLine_4 15 rfl rfl)
theorem dX7_inkLine_108 : decode cX7_inkLine 108 = .ok (.iaload, 1) := dk_46 (dk_at dksX7_inkLine_4 16 rfl rfl)
theorem dX7_inkLine_109 : decode cX7_inkLine 109 = .ok (.iconst 1, 1) := dk_4 (dk_at dksX7_inkLine_4 17 rfl rfl)
theorem dX7_inkLine_110 : decode cX7_inkLine 110 = .ok (.iadd, 1) := dk_96 (dk_at dksX7_inkLine_4 18 rfl rfl)
theorem dX7_inkLine_111 : decode cX7_inkLine 111 = .ok (.iastore, 1) := dk_79 (dk_at dksX7_inkLine_4 19 rfl rfl)
theorem dX7_inkLine_112 : decode cX7_inkLine 112 = .ok (.return_, 1) := dk_177 (dk_at dksX7_inkLine_4 20 rfl rfl)
abbrev cX7_after : ByteArray := prog_20_method_28_code
def yX7_after : MethodName := ⟨RX7, "after", "(Ljava/lang/String;II)I"⟩
def dkwX7_after_1 : List UInt8 := [42, 28, 29, 182, 0, 109, 172]
abbrev dktX7_after_1 : List UInt8 := dkwX7_after_1 ++ []
def dkwX7_after_0 : List UInt8 := [42, 180, 0, 25, 2, 160, 0, 19, 42, 43, 182, 0, 105, 154, 0, 11, 42, 42, 180, 0, 76, 182, 0, 101]
abbrev dktX7_after_0 : List UInt8 := dkwX7_after_0 ++ dktX7_after_1
theorem dksX7_after_0 : cX7_after.data.toList.drop 0 = dktX7_after_0 := by decide +kernel
theorem dksX7_after_1 : cX7_after.data.toList.drop 24 = dktX7_after_1 := dk_seg dksX7_after_0 24 rfl rfl
theorem dX7_after_0 : decode cX7_after 0 = .ok (.aload_n 0, 1) := dk_42 (dk_at dksX7_after_0 0 rfl rfl)
theorem dX7_after_1 : decode cX7_after 1 = .ok (.getfield 25, 3) := dk_180 0 25 (dk_at dksX7_after_0 1 rfl rfl)
theorem dX7_after_4 : decode cX7_after 4 = .ok (.iconst (-1), 1) := dk_2 (dk_at dksX7_after_0 4 rfl rfl)
theorem dX7_after_5 : decode cX7_after 5 = .ok (.if_icmp .ne 19, 3) := dk_160 0 19 (dk_at dksX7_after_0 5 rfl rfl)
theorem dX7_after_8 : decode cX7_after 8 = .ok (.aload_n 0, 1) := dk_42 (dk_at dksX7_after_0 8 rfl rfl)
theorem dX7_after_9 : decode cX7_after 9 = .ok (.aload_n 1, 1) := dk_43 (dk_at dksX7_after_0 9 rfl rfl)
theorem dX7_after_10 : decode cX7_after 10 = .ok (.invokevirtual 105, 3) := dk_182 0 105 (dk_at dksX7_after_0 10 rfl rfl)
theorem dX7_after_13 : decode cX7_after 13 = .ok (.ifCond .ne 11, 3) := dk_154 0 11 (dk_at dksX7_after_0 13 rfl rfl)
theorem dX7_after_16 : decode cX7_after 16 = .ok (.aload_n 0, 1) := dk_42 (dk_at dksX7_after_0 16 rfl rfl)
theorem dX7_after_17 : decode cX7_after 17 = .ok (.aload_n 0, 1) := dk_42 (dk_at dksX7_after_0 17 rfl rfl)
theorem dX7_after_18 : decode cX7_after 18 = .ok (.getfield 76, 3) := dk_180 0 76 (dk_at dksX7_after_0 18 rfl rfl)
theorem dX7_after_21 : decode cX7_after 21 = .ok (.invokevirtual 101, 3) := dk_182 0 101 (dk_at dksX7_after_0 21 rfl rfl)
theorem dX7_after_24 : decode cX7_after 24 = .ok (.aload_n 0, 1) := dk_42 (dk_at dksX7_after_1 0 rfl rfl)
theorem dX7_after_25 : decode cX7_after 25 = .ok (.iload_n 2, 1) := dk_28 (dk_at dksX7_after_1 1 rfl rfl)
theorem dX7_after_26 : decode cX7_after 26 = .ok (.iload_n 3, 1) := dk_29 (dk_at dksX7_after_1 2 rfl rfl)
theorem dX7_after_27 : decode cX7_after 27 = .ok (.invokevirtual 109, 3) := dk_182 0 109 (dk_at dksX7_after_1 3 rfl rfl)
theorem dX7_after_30 : decode cX7_after 30 = .ok (.ireturn, 1) := dk_172 (dk_at dksX7_after_1 6 rfl rfl)
abbrev cX7_maybe : ByteArray := prog_20_method_30_code
def yX7_maybe : MethodName := ⟨RX7, "maybe", "(Ljava/lang/String;III)I"⟩
def dkwX7_maybe_1 : List UInt8 := [167, 0, 5, 21, 4, 172]
abbrev dktX7_maybe_1 : List UInt8 := dkwX7_maybe_1 ++ []
def dkwX7_maybe_0 : List UInt8 := [42, 180, 0, 25, 2, 160, 0, 20, 42, 43, 182, 0, 105, 153, 0, 12, 42, 28, 29, 182, 0, 109]
abbrev dktX7_maybe_0 : List UInt8 := dkwX7_maybe_0 ++ dktX7_maybe_1
theorem dksX7_maybe_0 : cX7_maybe.data.toList.drop 0 = dktX7_maybe_0 := by decide +kernel
theorem dksX7_maybe_1 : cX7_maybe.data.toList.drop 22 = dktX7_maybe_1 := dk_seg dksX7_maybe_0 22 rfl rfl
theorem dX7_maybe_0 : decode cX7_maybe 0 = .ok (.aload_n 0, 1) := dk_42 (dk_at dksX7_maybe_0 0 rfl rfl)
theorem dX7_maybe_1 : decode cX7_maybe 1 = .ok (.getfield 25, 3) := dk_180 0 25 (dk_at dksX7_maybe_0 1 rfl rfl)
theorem dX7_maybe_4 : decode cX7_maybe 4 = .ok (.iconst (-1), 1) := dk_2 (dk_at dksX7_maybe_0 4 rfl rfl)
theorem dX7_maybe_5 : decode cX7_maybe 5 = .ok (.if_icmp .ne 20, 3) := dk_160 0 20 (dk_at dksX7_maybe_0 5 rfl rfl)
theorem dX7_maybe_8 : decode cX7_maybe 8 = .ok (.aload_n 0, 1) := dk_42 (dk_at dksX7_maybe_0 8 rfl rfl)
theorem dX7_maybe_9 : decode cX7_maybe 9 = .ok (.aload_n 1, 1) := dk_43 (dk_at dksX7_maybe_0 9 rfl rfl)
theorem dX7_maybe_10 : decode cX7_maybe 10 = .ok (.invokevirtual 105, 3) := dk_182 0 105 (dk_at dksX7_maybe_0 10 rfl rfl)
theorem dX7_maybe_13 : decode cX7_maybe 13 = .ok (.ifCond .eq 12, 3) := dk_153 0 12 (dk_at dksX7_maybe_0 13 rfl rfl)
theorem dX7_maybe_16 : decode cX7_maybe 16 = .ok (.aload_n 0, 1) := dk_42 (dk_at dksX7_maybe_0 16 rfl rfl)
theorem dX7_maybe_17 : decode cX7_maybe 17 = .ok (.iload_n 2, 1) := dk_28 (dk_at dksX7_maybe_0 17 rfl rfl)
theorem dX7_maybe_18 : decode cX7_maybe 18 = .ok (.iload_n 3, 1) := dk_29 (dk_at dksX7_maybe_0 18 rfl rfl)
theorem dX7_maybe_19 : decode cX7_maybe 19 = .ok (.invokevirtual 109, 3) := dk_182 0 109 (dk_at dksX7_maybe_0 19 rfl rfl)
theorem dX7_maybe_22 : decode cX7_maybe 22 = .ok (.goto 5, 3) := dk_167 0 5 (dk_at dksX7_maybe_1 0 rfl rfl)
theorem dX7_maybe_25 : decode cX7_maybe 25 = .ok (.iload 4, 2) := dk_21 4 (dk_at dksX7_maybe_1 3 rfl rfl)
theorem dX7_maybe_27 : decode cX7_maybe 27 = .ok (.ireturn, 1) := dk_172 (dk_at dksX7_maybe_1 5 rfl rfl)
abbrev cX7_deedLine : ByteArray := prog_20_method_33_code
def yX7_deedLine : MethodName := ⟨RX7, "deedLine", "(I)V"⟩
def dkwX7_deedLine_8 : List UInt8 := [21, 6, 21, 7, 21, 8, 21, 9, 21, 10, 182, 0, 143, 177]
abbrev dktX7_deedLine_8 : List UInt8 := dkwX7_deedLine_8 ++ []
def dkwX7_deedLine_7 : List UInt8 := [180, 0, 7, 8, 46, 4, 100, 2, 182, 0, 120, 54, 10, 42, 180, 0, 25, 2, 160, 0, 19, 42, 28, 29]
abbrev dktX7_deedLine_7 : List UInt8 := dkwX7_deedLine_7 ++ dktX7_deedLine_8
def dkwX7_deedLine_6 : List UInt8 := [18, 139, 3, 42, 180, 0, 7, 8, 46, 4, 100, 2, 182, 0, 120, 54, 9, 42, 18, 141, 3, 42]
abbrev dktX7_deedLine_6 : List UInt8 := dkwX7_deedLine_6 ++ dktX7_deedLine_7
def dkwX7_deedLine_5 : List UInt8 := [18, 135, 3, 16, 99, 182, 0, 114, 54, 7, 42, 18, 137, 3, 16, 20, 3, 182, 0, 120, 54, 8, 42]
abbrev dktX7_deedLine_5 : List UInt8 := dkwX7_deedLine_5 ++ dktX7_deedLine_6
def dkwX7_deedLine_4 : List UInt8 := [54, 6, 42, 180, 0, 25, 2, 160, 0, 15, 21, 6, 29, 160, 0, 9, 42, 21, 5, 182, 0, 101, 42]
abbrev dktX7_deedLine_4 : List UInt8 := dkwX7_deedLine_4 ++ dktX7_deedLine_5
def dkwX7_deedLine_3 : List UInt8 := [54, 5, 21, 4, 153, 0, 19, 42, 3, 42, 180, 0, 7, 6, 46, 4, 100, 182, 0, 109, 167, 0, 4, 3]
abbrev dktX7_deedLine_3 : List UInt8 := dkwX7_deedLine_3 ++ dktX7_deedLine_4
def dkwX7_deedLine_2 : List UInt8 := [42, 18, 130, 182, 0, 132, 54, 4, 21, 4, 153, 0, 10, 42, 182, 0, 98, 167, 0, 7, 42, 180, 0, 76]
abbrev dktX7_deedLine_2 : List UInt8 := dkwX7_deedLine_2 ++ dktX7_deedLine_3
def dkwX7_deedLine_1 : List UInt8 := [7, 46, 4, 100, 182, 0, 114, 61, 42, 18, 128, 3, 42, 180, 0, 7, 6, 46, 4, 100, 182, 0, 114, 62]
abbrev dktX7_deedLine_1 : List UInt8 := dkwX7_deedLine_1 ++ dktX7_deedLine_2
def dkwX7_deedLine_0 : List UInt8 := [42, 180, 0, 7, 8, 46, 16, 8, 160, 0, 8, 42, 27, 182, 0, 101, 42, 18, 126, 3, 42, 180, 0, 7]
abbrev dktX7_deedLine_0 : List UInt8 := dkwX7_deedLine_0 ++ dktX7_deedLine_1
theorem dksX7_deedLine_0 : cX7_deedLine.data.toList.drop 0 = dktX7_deedLine_0 := by decide +kernel
theorem dksX7_deedLine_1 : cX7_deedLine.data.toList.drop 24 = dktX7_deedLine_1 := dk_seg dksX7_deedLine_0 24 rfl rfl
theorem dksX7_deedLine_2 : cX7_deedLine.data.toList.drop 48 = dktX7_deedLine_2 := dk_seg dksX7_deedLine_1 24 rfl rfl
theorem dksX7_deedLine_3 : cX7_deedLine.data.toList.drop 72 = dktX7_deedLine_3 := dk_seg dksX7_deedLine_2 24 rfl rfl
theorem dksX7_deedLine_4 : cX7_deedLine.data.toList.drop 96 = dktX7_deedLine_4 := dk_seg dksX7_deedLine_3 24 rfl rfl
theorem dksX7_deedLine_5 : cX7_deedLine.data.toList.drop 119 = dktX7_deedLine_5 := dk_seg dksX7_deedLine_4 23 rfl rfl
theorem dksX7_deedLine_6 : cX7_deedLine.data.toList.drop 142 = dktX7_deedLine_6 := dk_seg dksX7_deedLine_5 23 rfl rfl
theorem dksX7_deedLine_7 : cX7_deedLine.data.toList.drop 164 = dktX7_deedLine_7 := dk_seg dksX7_deedLine_6 22 rfl rfl
theorem dksX7_deedLine_8 : cX7_deedLine.data.toList.drop 188 = dktX7_deedLine_8 := dk_seg dksX7_deedLine_7 24 rfl rfl
theorem dX7_deedLine_0 : decode cX7_deedLine 0 = .ok (.aload_n 0, 1) := dk_42 (dk_at dksX7_deedLine_0 0 rfl rfl)
theorem dX7_deedLine_1 : decode cX7_deedLine 1 = .ok (.getfield 7, 3) := dk_180 0 7 (dk_at dksX7_deedLine_0 1 rfl rfl)
theorem dX7_deedLine_4 : decode cX7_deedLine 4 = .ok (.iconst 5, 1) := dk_8 (dk_at dksX7_deedLine_0 4 rfl rfl)
theorem dX7_deedLine_5 : decode cX7_deedLine 5 = .ok (.iaload, 1) := dk_46 (dk_at dksX7_deedLine_0 5 rfl rfl)
theorem dX7_deedLine_6 : decode cX7_deedLine 6 = .ok (.bipush 8, 2) := dk_16 8 (dk_at dksX7_deedLine_0 6 rfl rfl)
theorem dX7_deedLine_8 : decode cX7_deedLine 8 = .ok (.if_icmp .ne 8, 3) := dk_160 0 8 (dk_at dksX7_deedLine_0 8 rfl rfl)
theorem dX7_deedLine_11 : decode cX7_deedLine 11 = .ok (.aload_n 0, 1) := dk_42 (dk_at dksX7_deedLine_0 11 rfl rfl)
theorem dX7_deedLine_12 : decode cX7_deedLine 12 = .ok (.iload_n 1, 1) := dk_27 (dk_at dksX7_deedLine_0 12 rfl rfl)
theorem dX7_deedLine_13 : decode cX7_deedLine 13 = .ok (.invokevirtual 101, 3) := dk_182 0 101 (dk_at dksX7_deedLine_0 13 rfl rfl)
theorem dX7_deedLine_16 : decode cX7_deedLine 16 = .ok (.aload_n 0, 1) := dk_42 (dk_at dksX7_deedLine_0 16 rfl rfl)
theorem dX7_deedLine_17 : decode cX7_deedLine 17 = .ok (.ldc 126, 2) := dk_18 126 (dk_at dksX7_deedLine_0 17 rfl rfl)
theorem dX7_deedLine_19 : decode cX7_deedLine 19 = .ok (.iconst 0, 1) := dk_3 (dk_at dksX7_deedLine_0 19 rfl rfl)
theorem dX7_deedLine_20 : decode cX7_deedLine 20 = .ok (.aload_n 0, 1) := dk_42 (dk_at dksX7_deedLine_0 20 rfl rfl)
theorem dX7_deedLine_21 : decode cX7_deedLine 21 = .ok (.getfield 7, 3) := dk_180 0 7 (dk_at dksX7_deedLine_0 21 rfl rfl)
theorem dX7_deedLine_24 : decode cX7_deedLine 24 = .ok (.iconst 4, 1) := dk_7 (dk_at dksX7_deedLine_1 0 rfl rfl)
theorem dX7_deedLine_25 : decode cX7_deedLine 25 = .ok (.iaload, 1) := dk_46 (dk_at dksX7_deedLine_1 1 rfl rfl)
theorem dX7_deedLine_26 : decode cX7_deedLine 26 = .ok (.iconst 1, 1) := dk_4 (dk_at dksX7_deedLine_1 2 rfl rfl)
theorem dX7_deedLine_27 : decode cX7_deedLine 27 = .ok (.isub, 1) := dk_100 (dk_at dksX7_deedLine_1 3 rfl rfl)
theorem dX7_deedLine_28 : decode cX7_deedLine 28 = .ok (.invokevirtual 114, 3) := dk_182 0 114 (dk_at dksX7_deedLine_1 4 rfl rfl)
theorem dX7_deedLine_31 : decode cX7_deedLine 31 = .ok (.istore_n 2, 1) := dk_61 (dk_at dksX7_deedLine_1 7 rfl rfl)
theorem dX7_deedLine_32 : decode cX7_deedLine 32 = .ok (.aload_n 0, 1) := dk_42 (dk_at dksX7_deedLine_1 8 rfl rfl)
theorem dX7_deedLine_33 : decode cX7_deedLine 33 = .ok (.ldc 128, 2) := dk_18 128 (dk_at dksX7_deedLine_1 9 rfl rfl)
theorem dX7_deedLine_35 : decode cX7_deedLine 35 = .ok (.iconst 0, 1) := dk_3 (dk_at dksX7_deedLine_1 11 rfl rfl)
theorem dX7_deedLine_36 : decode cX7_deedLine 36 = .ok (.aload_n 0, 1) := dk_42 (dk_at dksX7_deedLine_1 12 rfl rfl)
theorem dX7_deedLine_37 : decode cX7_deedLine 37 = .ok (.getfield 7, 3) := dk_180 0 7 (dk_at dksX7_deedLine_1 13 rfl rfl)
theorem dX7_deedLine_40 : decode cX7_deedLine 40 = .ok (.iconst 3, 1) := dk_6 (dk_at dksX7_deedLine_1 16 rfl rfl)
theorem dX7_deedLine_41 : decode cX7_deedLine 41 = .ok (.iaload, 1) := dk_46 (dk_at dksX7_deedLine_1 17 rfl rfl)
theorem dX7_deedLine_42 : decode cX7_deedLine 42 = .ok (.iconst 1, 1) := dk_4 (dk_at dksX7_deedLine_1 18 rfl rfl)
theorem dX7_deedLine_43 : decode cX7_deedLine 43 = .ok (.isub, 1) := dk_100 (dk_at dksX7_deedLine_1 19 rfl rfl)
theorem dX7_deedLine_44 : decode cX7_deedLine 44 = .ok (.invokevirtual 114, 3) := dk_182 0 114 (dk_at dksX7_deedLine_1 20 rfl rfl)
theorem dX7_deedLine_47 : decode cX7_deedLine 47 = .ok (.istore_n 3, 1) := dk_62 (dk_at dksX7_deedLine_1 23 rfl rfl)
theorem dX7_deedLine_48 : decode cX7_deedLine 48 = .ok (.aload_n 0, 1) := dk_42 (dk_at dksX7_deedLine_2 0 rfl rfl)
theorem dX7_deedLine_49 : decode cX7_deedLine 49 = .ok (.ldc 130, 2) := dk_18 130 (dk_at dksX7_deedLine_2 1 rfl rfl)
theorem dX7_deedLine_51 : decode cX7_deedLine 51 = .ok (.invokevirtual 132, 3) := dk_182 0 132 (dk_at dksX7_deedLine_2 3 rfl rfl)
theorem dX7_deedLine_54 : decode cX7_deedLine 54 = .ok (.istore 4, 2) := dk_54 4 (dk_at dksX7_deedLine_2 6 rfl rfl)
theorem dX7_deedLine_56 : decode cX7_deedLine 56 = .ok (.iload 4, 2) := dk_21 4 (dk_at dksX7_deedLine_2 8 rfl rfl)
theorem dX7_deedLine_58 : decode cX7_deedLine 58 = .ok (.ifCond .eq 10, 3) := dk_153 0 10 (dk_at dksX7_deedLine_2 10 rfl rfl)
theorem dX7_deedLine_61 : decode cX7_deedLine 61 = .ok (.aload_n 0, 1) := dk_42 (dk_at dksX7_deedLine_2 13 rfl rfl)
theorem dX7_deedLine_62 : decode cX7_deedLine 62 = .ok (.invokevirtual 98, 3) := dk_182 0 98 (dk_at dksX7_deedLine_2 14 rfl rfl)
theorem dX7_deedLine_65 : decode cX7_deedLine 65 = .ok (.goto 7, 3) := dk_167 0 7 (dk_at dksX7_deedLine_2 17 rfl rfl)
theorem dX7_deedLine_68 : decode cX7_deedLine 68 = .ok (.aload_n 0, 1) := dk_42 (dk_at dksX7_deedLine_2 20 rfl rfl)
theorem dX7_deedLine_69 : decode cX7_deedLine 69 = .ok (.getfield 76, 3) := dk_180 0 76 (dk_at dksX7_deedLine_2 21 rfl rfl)
theorem dX7_deedLine_72 : decode cX7_deedLine 72 = .ok (.istore 5, 2) := dk_54 5 (dk_at dksX7_deedLine_3 0 rfl rfl)
theorem dX7_deedLine_74 : decode cX7_deedLine 74 = .ok (.iload 4, 2) := dk_21 4 (dk_at dksX7_deedLine_3 2 rfl rfl)
theorem dX7_deedLine_76 : decode cX7_deedLine 76 = .ok (.ifCond .eq 19, 3) := dk_153 0 19 (dk_at dksX7_deedLine_3 4 rfl rfl)
theorem dX7_deedLine_79 : decode cX7_deedLine 79 = .ok (.aload_n 0, 1) := dk_42 (dk_at dksX7_deedLine_3 7 rfl rfl)
theorem dX7_deedLine_80 : decode cX7_deedLine 80 = .ok (.iconst 0, 1) := dk_3 (dk_at dksX7_deedLine_3 8 rfl rfl)
theorem dX7_deedLine_81 : decode cX7_deedLine 81 = .ok (.aload_n 0, 1) := dk_42 (dk_at dksX7_deedLine_3 9 rfl rfl)
theorem dX7_deedLine_82 : decode cX7_deedLine 82 = .ok (.getfield 7, 3) := dk_180 0 7 (dk_at dksX7_deedLine_3 10 rfl rfl)
theorem dX7_deedLine_85 : decode cX7_deedLine 85 = .ok (.iconst 3, 1) := dk_6 (dk_at dksX7_deedLine_3 13 rfl rfl)
theorem dX7_deedLine_86 : decode cX7_deedLine 86 = .ok (.iaload, 1) := dk_46 (dk_at dksX7_deedLine_3 14 rfl rfl)
theorem dX7_deedLine_87 : decode cX7_deedLine 87 = .ok (.iconst 1, 1) := dk_4 (dk_at dksX7_deedLine_3 15 rfl rfl)
theorem dX7_deedLine_88 : decode cX7_deedLine 88 = .ok (.isub, 1) := dk_100 (dk_at dksX7_deedLine_3 16 rfl rfl)
theorem dX7_deedLine_89 : decode cX7_deedLine 89 = .ok (.invokevirtual 109, 3) := dk_182 0 109 (dk_at dksX7_deedLine_3 17 rfl rfl)
theorem dX7_deedLine_92 : decode cX7_deedLine 92 = .ok (.goto 4, 3) := dk_167 0 4 (dk_at dksX7_deedLine_3 20 rfl rfl)
theorem dX7_deedLine_95 : decode cX7_deedLine 95 = .ok (.iconst 0, 1) := dk_3 (dk_at dksX7_deedLine_3 23 rfl rfl)
theorem dX7_deedLine_96 : decode cX7_deedLine 96 = .ok (.istore 6, 2) := dk_54 6 (dk_at dksX7_deedLine_4 0 rfl rfl)
theorem dX7_deedLine_98 : decode cX7_deedLine 98 = .ok (.aload_n 0, 1) := dk_42 (dk_at dksX7_deedLine_4 2 rfl rfl)
theorem dX7_deedLine_99 : decode cX7_deedLine 99 = .ok (.getfield 25, 3) := dk_180 0 25 (dk_at dksX7_deedLine_4 3 rfl rfl)
theorem dX7_deedLine_102 : decode cX7_deedLine 102 = .ok (.iconst (-1), 1) := dk_2 (dk_at dksX7_deedLine_4 6 rfl rfl)
theorem dX7_deedLine_103 : decode cX7_deedLine 103 = .ok (.if_icmp .ne 15, 3) := dk_160 0 15 (dk_at dksX7_deedLine_4 7 rfl rfl)
theorem dX7_deedLine_106 : decode cX7_deedLine 106 = .ok (.iload 6, 2) := dk_21 6 (dk_at dksX7_deedLine_4 10 rfl rfl)
theorem dX7_deedLine_108 : decode cX7_deedLine 108 = .ok (.iload_n 3, 1) := dk_29 (dk_at dksX7_deedLine_4 12 rfl rfl)
theorem dX7_deedLine_109 : decode cX7_deedLine 109 = .ok (.if_icmp .ne 9, 3) := dk_160 0 9 (dk_at dksX7_deedLine_4 13 rfl rfl)
theorem dX7_deedLine_112 : decode cX7_deedLine 112 = .ok (.aload_n 0, 1) := dk_42 (dk_at dksX7_deedLine_4 16 rfl rfl)
theorem dX7_deedLine_113 : decode cX7_deedLine 113 = .ok (.iload 5, 2) := dk_21 5 (dk_at dksX7_deedLine_4 17 rfl rfl)
theorem dX7_deedLine_115 : decode cX7_deedLine 115 = .ok (.invokevirtual 101, 3) := dk_182 0 101 (dk_at dksX7_deedLine_4 19 rfl rfl)
theorem dX7_deedLine_118 : decode cX7_deedLine 118 = .ok (.aload_n 0, 1) := dk_42 (dk_at dksX7_deedLine_4 22 rfl rfl)
theorem dX7_deedLine_119 : decode cX7_deedLine 119 = .ok (.ldc 135, 2) := dk_18 135 (dk_at dksX7_deedLine_5 0 rfl rfl)
theorem dX7_deedLine_121 : decode cX7_deedLine 121 = .ok (.iconst 0, 1) := dk_3 (dk_at dksX7_deedLine_5 2 rfl rfl)
theorem dX7_deedLine_122 : decode cX7_deedLine 122 = .ok (.bipush 99, 2) := dk_16 99 (dk_at dksX7_deedLine_5 3 rfl rfl)
theorem dX7_deedLine_124 : decode cX7_deedLine 124 = .ok (.invokevirtual 114, 3) := dk_182 0 114 (dk_at dksX7_deedLine_5 5 rfl rfl)
theorem dX7_deedLine_127 : decode cX7_deedLine 127 = .ok (.istore 7, 2) := dk_54 7 (dk_at dksX7_deedLine_5 8 rfl rfl)
theorem dX7_deedLine_129 : decode cX7_deedLine 129 = .ok (.aload_n 0, 1) := dk_42 (dk_at dksX7_deedLine_5 10 rfl rfl)
theorem dX7_deedLine_130 : decode cX7_deedLine 130 = .ok (.ldc 137, 2) := dk_18 137 (dk_at dksX7_deedLine_5 11 rfl rfl)
theorem dX7_deedLine_132 : decode cX7_deedLine 132 = .ok (.iconst 0, 1) := dk_3 (dk_at dksX7_deedLine_5 13 rfl rfl)
theorem dX7_deedLine_133 : decode cX7_deedLine 133 = .ok (.bipush 20, 2) := dk_16 20 (dk_at dksX7_deedLine_5 14 rfl rfl)
theorem dX7_deedLine_135 : decode cX7_deedLine 135 = .ok (.iconst 0, 1) := dk_3 (dk_at dksX7_deedLine_5 16 rfl rfl)
theorem dX7_deedLine_136 : decode cX7_deedLine 136 = .ok (.invokevirtual 120, 3) := dk_182 0 120 (dk_at dksX7_deedLine_5 17 rfl rfl)
theorem dX7_deedLine_139 : decode cX7_deedLine 139 = .ok (.istore 8, 2) := dk_54 8 (dk_at dksX7_deedLine_5 20 rfl rfl)
theorem dX7_deedLine_141 : decode cX7_deedLine 141 = .ok (.aload_n 0, 1) := dk_42 (dk_at dksX7_deedLine_5 22 rfl rfl)
theorem dX7_deedLine_142 : decode cX7_deedLine 142 = .ok (.ldc 139, 2) := dk_18 139 (dk_at dksX7_deedLine_6 0 rfl rfl)
theorem dX7_deedLine_144 : decode cX7_deedLine 144 = .ok (.iconst 0, 1) := dk_3 (dk_at dksX7_deedLine_6 2 rfl rfl)
theorem dX7_deedLine_145 : decode cX7_deedLine 145 = .ok (.aload_n 0, 1) := dk_42 (dk_at dksX7_deedLine_6 3 rfl rfl)
theorem dX7_deedLine_146 : decode cX7_deedLine 146 = .ok (.getfield 7, 3) := dk_180 0 7 (dk_at dksX7_deedLine_6 4 rfl rfl)
theorem dX7_deedLine_149 : decode cX7_deedLine 149 = .ok (.iconst 5, 1) := dk_8 (dk_at dksX7_deedLine_6 7 rfl rfl)
theorem dX7_deedLine_150 : decode cX7_deedLine 150 = .ok (.iaload, 1) := dk_46 (dk_at dksX7_deedLine_6 8 rfl rfl)
theorem dX7_deedLine_151 : decode cX7_deedLine 151 = .ok (.iconst 1, 1) := dk_4 (dk_at dksX7_deedLine_6 9 rfl rfl)
theorem dX7_deedLine_152 : decode cX7_deedLine 152 = .ok (.isub, 1) := dk_100 (dk_at dksX7_deedLine_6 10 rfl rfl)
theorem dX7_deedLine_153 : decode cX7_deedLine 153 = .ok (.iconst (-1), 1) := dk_2 (dk_at dksX7_deedLine_6 11 rfl rfl)
theorem dX7_deedLine_154 : decode cX7_deedLine 154 = .ok (.invokevirtual 120, 3) := dk_182 0 120 (dk_at dksX7_deedLine_6 12 rfl rfl)
theorem dX7_deedLine_157 : decode cX7_deedLine 157 = .ok (.istore 9, 2) := dk_54 9 (dk_at dksX7_deedLine_6 15 rfl rfl)
theorem dX7_deedLine_159 : decode cX7_deedLine 159 = .ok (.aload_n 0, 1) := dk_42 (dk_at dksX7_deedLine_6 17 rfl rfl)
theorem dX7_deedLine_160 : decode cX7_deedLine 160 = .ok (.ldc 141, 2) := dk_18 141 (dk_at dksX7_deedLine_6 18 rfl rfl)
theorem dX7_deedLine_162 : decode cX7_deedLine 162 = .ok (.iconst 0, 1) := dk_3 (dk_at dksX7_deedLine_6 20 rfl rfl)
theorem dX7_deedLine_163 : decode cX7_deedLine 163 = .ok (.aload_n 0, 1) := dk_42 (dk_at dksX7_deedLine_6 21 rfl rfl)
theorem dX7_deedLine_164 : decode cX7_deedLine 164 = .ok (.getfield 7, 3) := dk_180 0 7 (dk_at dksX7_deedLine_7 0 rfl rfl)
theorem dX7_deedLine_167 : decode cX7_deedLine 167 = .ok (.iconst 5, 1) := dk_8 (dk_at dksX7_deedLine_7 3 rfl rfl)
theorem dX7_deedLine_168 : decode cX7_deedLine 168 = .ok (.iaload, 1) := dk_46 (dk_at dksX7_deedLine_7 4 rfl rfl)
theorem dX7_deedLine_169 : decode cX7_deedLine 169 = .ok (.iconst 1, 1) := dk_4 (dk_at dksX7_deedLine_7 5 rfl rfl)
theorem dX7_deedLine_170 : decode cX7_deedLine 170 = .ok (.isub, 1) := dk_100 (dk_at dksX7_deedLine_7 6 rfl rfl)
theorem dX7_deedLine_171 : decode cX7_deedLine 171 = .ok (.iconst (-1), 1) := dk_2 (dk_at dksX7_deedLine_7 7 rfl rfl)
theorem dX7_deedLine_172 : decode cX7_deedLine 172 = .ok (.invokevirtual 120, 3) := dk_182 0 120 (dk_at dksX7_deedLine_7 8 rfl rfl)
theorem dX7_deedLine_175 : decode cX7_deedLine 175 = .ok (.istore 10, 2) := dk_54 10 (dk_at dksX7_deedLine_7 11 rfl rfl)
theorem dX7_deedLine_177 : decode cX7_deedLine 177 = .ok (.aload_n 0, 1) := dk_42 (dk_at dksX7_deedLine_7 13 rfl rfl)
theorem dX7_deedLine_178 : decode cX7_deedLine 178 = .ok (.getfield 25, 3) := dk_180 0 25 (dk_at dksX7_deedLine_7 14 rfl rfl)
theorem dX7_deedLine_181 : decode cX7_deedLine 181 = .ok (.iconst (-1), 1) := dk_2 (dk_at dksX7_deedLine_7 17 rfl rfl)
theorem dX7_deedLine_182 : decode cX7_deedLine 182 = .ok (.if_icmp .ne 19, 3) := dk_160 0 19 (dk_at dksX7_deedLine_7 18 rfl rfl)
theorem dX7_deedLine_185 : decode cX7_deedLine 185 = .ok (.aload_n 0, 1) := dk_42 (dk_at dksX7_deedLine_7 21 rfl rfl)
theorem dX7_deedLine_186 : decode cX7_deedLine 186 = .ok (.iload_n 2, 1) := dk_28 (dk_at dksX7_deedLine_7 22 rfl rfl)
theorem dX7_deedLine_187 : decode cX7_deedLine 187 = .ok (.iload_n 3, 1) := dk_29 (dk_at dksX7_deedLine_7 23 rfl rfl)
theorem dX7_deedLine_188 : decode cX7_deedLine 188 = .ok (.iload 6, 2) := dk_21 6 (dk_at dksX7_deedLine_8 0 rfl rfl)
theorem dX7_deedLine_190 : decode cX7_deedLine 190 = .ok (.iload 7, 2) := dk_21 7 (dk_at dksX7_deedLine_8 2 rfl rfl)
theorem dX7_deedLine_192 : decode cX7_deedLine 192 = .ok (.iload 8, 2) := dk_21 8 (dk_at dksX7_deedLine_8 4 rfl rfl)
theorem dX7_deedLine_194 : decode cX7_deedLine 194 = .ok (.iload 9, 2) := dk_21 9 (dk_at dksX7_deedLine_8 6 rfl rfl)
theorem dX7_deedLine_196 : decode cX7_deedLine 196 = .ok (.iload 10, 2) := dk_21 10 (dk_at dksX7_deedLine_8 8 rfl rfl)
theorem dX7_deedLine_198 : decode cX7_deedLine 198 = .ok (.invokevirtual 143, 3) := dk_182 0 143 (dk_at dksX7_deedLine_8 10 rfl rfl)
theorem dX7_deedLine_201 : decode cX7_deedLine 201 = .ok (.return_, 1) := dk_177 (dk_at dksX7_deedLine_8 13 rfl rfl)
abbrev cX7_expects : ByteArray := prog_20_method_32_code
def yX7_expects : MethodName := ⟨RX7, "expects", "(Ljava/lang/String;)Z"⟩
def dkwX7_expects_1 : List UInt8 := [180, 0, 76, 182, 0, 101, 28, 172]
abbrev dktX7_expects_1 : List UInt8 := dkwX7_expects_1 ++ []
def dkwX7_expects_0 : List UInt8 := [42, 180, 0, 25, 2, 159, 0, 5, 3, 172, 42, 43, 182, 0, 105, 61, 28, 154, 0, 11, 42, 42]
abbrev dktX7_expects_0 : List UInt8 := dkwX7_expects_0 ++ dktX7_expects_1
theorem dksX7_expects_0 : cX7_expects.data.toList.drop 0 = dktX7_expects_0 := by decide +kernel
theorem dksX7_expects_1 : cX7_expects.data.toList.drop 22 = dktX7_expects_1 := dk_seg dksX7_expects_0 22 rfl rfl
theorem dX7_expects_0 : decode cX7_expects 0 = .ok (.aload_n 0, 1) := dk_42 (dk_at dksX7_expects_0 0 rfl rfl)
theorem dX7_expects_1 : decode cX7_expects 1 = .ok (.getfield 25, 3) := dk_180 0 25 (dk_at dksX7_expects_0 1 rfl rfl)
theorem dX7_expects_4 : decode cX7_expects 4 = .ok (.iconst (-1), 1) := dk_2 (dk_at dksX7_expects_0 4 rfl rfl)
theorem dX7_expects_5 : decode cX7_expects 5 = .ok (.if_icmp .eq 5, 3) := dk_159 0 5 (dk_at dksX7_expects_0 5 rfl rfl)
theorem dX7_expects_8 : decode cX7_expects 8 = .ok (.iconst 0, 1) := dk_3 (dk_at dksX7_expects_0 8 rfl rfl)
theorem dX7_expects_9 : decode cX7_expects 9 = .ok (.ireturn, 1) := dk_172 (dk_at dksX7_expects_0 9 rfl rfl)
theorem dX7_expects_10 : decode cX7_expects 10 = .ok (.aload_n 0, 1) := dk_42 (dk_at dksX7_expects_0 10 rfl rfl)
theorem dX7_expects_11 : decode cX7_expects 11 = .ok (.aload_n 1, 1) := dk_43 (dk_at dksX7_expects_0 11 rfl rfl)
theorem dX7_expects_12 : decode cX7_expects 12 = .ok (.invokevirtual 105, 3) := dk_182 0 105 (dk_at dksX7_expects_0 12 rfl rfl)
theorem dX7_expects_15 : decode cX7_expects 15 = .ok (.istore_n 2, 1) := dk_61 (dk_at dksX7_expects_0 15 rfl rfl)
theorem dX7_expects_16 : decode cX7_expects 16 = .ok (.iload_n 2, 1) := dk_28 (dk_at dksX7_expects_0 16 rfl rfl)
theorem dX7_expects_17 : decode cX7_expects 17 = .ok (.ifCond .ne 11, 3) := dk_154 0 11 (dk_at dksX7_expects_0 17 rfl rfl)
theorem dX7_expects_20 : decode cX7_expects 20 = .ok (.aload_n 0, 1) := dk_42 (dk_at dksX7_expects_0 20 rfl rfl)
theorem dX7_expects_21 : decode cX7_expects 21 = .ok (.aload_n 0, 1) := dk_42 (dk_at dksX7_expects_0 21 rfl rfl)
theorem dX7_expects_22 : decode cX7_expects 22 = .ok (.getfield 76, 3) := dk_180 0 76 (dk_at dksX7_expects_1 0 rfl rfl)
theorem dX7_expects_25 : decode cX7_expects 25 = .ok (.invokevirtual 101, 3) := dk_182 0 101 (dk_at dksX7_expects_1 3 rfl rfl)
theorem dX7_expects_28 : decode cX7_expects 28 = .ok (.iload_n 2, 1) := dk_28 (dk_at dksX7_expects_1 6 rfl rfl)
theorem dX7_expects_29 : decode cX7_expects 29 = .ok (.ireturn, 1) := dk_172 (dk_at dksX7_expects_1 7 rfl rfl)
abbrev cX7_adds : ByteArray := prog_20_method_34_code
def yX7_adds : MethodName := ⟨RX7, "adds", "(IIIIIII)V"⟩
def dkwX7_adds_5 : List UInt8 := [182, 0, 147, 42, 180, 0, 7, 8, 92, 46, 4, 96, 79, 177]
abbrev dktX7_adds_5 : List UInt8 := dkwX7_adds_5 ++ []
def dkwX7_adds_4 : List UInt8 := [21, 8, 16, 9, 2, 182, 0, 147, 42, 21, 8, 16, 10, 3, 182, 0, 147, 42, 21, 8, 16, 11, 3]
abbrev dktX7_adds_4 : List UInt8 := dkwX7_adds_4 ++ dktX7_adds_5
def dkwX7_adds_3 : List UInt8 := [21, 8, 16, 7, 42, 180, 0, 7, 16, 6, 46, 182, 0, 147, 42, 21, 8, 16, 8, 3, 182, 0, 147, 42]
abbrev dktX7_adds_3 : List UInt8 := dkwX7_adds_3 ++ dktX7_adds_4
def dkwX7_adds_2 : List UInt8 := [182, 0, 147, 42, 21, 8, 8, 21, 6, 182, 0, 147, 42, 21, 8, 16, 6, 21, 7, 182, 0, 147, 42]
abbrev dktX7_adds_2 : List UInt8 := dkwX7_adds_2 ++ dktX7_adds_3
def dkwX7_adds_1 : List UInt8 := [42, 21, 8, 5, 29, 182, 0, 147, 42, 21, 8, 6, 21, 4, 182, 0, 147, 42, 21, 8, 7, 21, 5]
abbrev dktX7_adds_1 : List UInt8 := dkwX7_adds_1 ++ dktX7_adds_2
def dkwX7_adds_0 : List UInt8 := [42, 180, 0, 7, 8, 46, 54, 8, 42, 21, 8, 3, 27, 182, 0, 147, 42, 21, 8, 4, 28, 182, 0, 147]
abbrev dktX7_adds_0 : List UInt8 := dkwX7_adds_0 ++ dktX7_adds_1
theorem dksX7_adds_0 : cX7_adds.data.toList.drop 0 = dktX7_adds_0 := by decide +kernel
theorem dksX7_adds_1 : cX7_adds.data.toList.drop 24 = dktX7_adds_1 := dk_seg dksX7_adds_0 24 rfl rfl
theorem dksX7_adds_2 : cX7_adds.data.toList.drop 47 = dktX7_adds_2 := dk_seg dksX7_adds_1 23 rfl rfl
theorem dksX7_adds_3 : cX7_adds.data.toList.drop 70 = dktX7_adds_3 := dk_seg dksX7_adds_2 23 rfl rfl
theorem dksX7_adds_4 : cX7_adds.data.toList.drop 94 = dktX7_adds_4 := dk_seg dksX7_adds_3 24 rfl rfl
theorem dksX7_adds_5 : cX7_adds.data.toList.drop 117 = dktX7_adds_5 := dk_seg dksX7_adds_4 23 rfl rfl
theorem dX7_adds_0 : decode cX7_adds 0 = .ok (.aload_n 0, 1) := dk_42 (dk_at dksX7_adds_0 0 rfl rfl)
theorem dX7_adds_1 : decode cX7_adds 1 = .ok (.getfield 7, 3) := dk_180 0 7 (dk_at dksX7_adds_0 1 rfl rfl)
theorem dX7_adds_4 : decode cX7_adds 4 = .ok (.iconst 5, 1) := dk_8 (dk_at dksX7_adds_0 4 rfl rfl)
theorem dX7_adds_5 : decode cX7_adds 5 = .ok (.iaload, 1) := dk_46 (dk_at dksX7_adds_0 5 rfl rfl)
theorem dX7_adds_6 : decode cX7_adds 6 = .ok (.istore 8, 2) := dk_54 8 (dk_at dksX7_adds_0 6 rfl rfl)
theorem dX7_adds_8 : decode cX7_adds 8 = .ok (.aload_n 0, 1) := dk_42 (dk_at dksX7_adds_0 8 rfl rfl)
theorem dX7_adds_9 : decode cX7_adds 9 = .ok (.iload 8, 2) := dk_21 8 (dk_at dksX7_adds_0 9 rfl rfl)
theorem dX7_adds_11 : decode cX7_adds 11 = .ok (.iconst 0, 1) := dk_3 (dk_at dksX7_adds_0 11 rfl rfl)
theorem dX7_adds_12 : decode cX7_adds 12 = .ok (.iload_n 1, 1) := dk_27 (dk_at dksX7_adds_0 12 rfl rfl)
theorem dX7_adds_13 : decode cX7_adds 13 = .ok (.invokevirtual 147, 3) := dk_182 0 147 (dk_at dksX7_adds_0 13 rfl rfl)
theorem dX7_adds_16 : decode cX7_adds 16 = .ok (.aload_n 0, 1) := dk_42 (dk_at dksX7_adds_0 16 rfl rfl)
theorem dX7_adds_17 : decode cX7_adds 17 = .ok (.iload 8, 2) := dk_21 8 (dk_at dksX7_adds_0 17 rfl rfl)
theorem dX7_adds_19 : decode cX7_adds 19 = .ok (.iconst 1, 1) := dk_4 (dk_at dksX7_adds_0 19 rfl rfl)
theorem dX7_adds_20 : decode cX7_adds 20 = .ok (.iload_n 2, 1) := dk_28 (dk_at dksX7_adds_0 20 rfl rfl)
theorem dX7_adds_21 : decode cX7_adds 21 = .ok (.invokevirtual 147, 3) := dk_182 0 147 (dk_at dksX7_adds_0 21 rfl rfl)
theorem dX7_adds_24 : decode cX7_adds 24 = .ok (.aload_n 0, 1) := dk_42 (dk_at dksX7_adds_1 0 rfl rfl)
theorem dX7_adds_25 : decode cX7_adds 25 = .ok (.iload 8, 2) := dk_21 8 (dk_at dksX7_adds_1 1 rfl rfl)
theorem dX7_adds_27 : decode cX7_adds 27 = .ok (.iconst 2, 1) := dk_5 (dk_at dksX7_adds_1 3 rfl rfl)
theorem dX7_adds_28 : decode cX7_adds 28 = .ok (.iload_n 3, 1) := dk_29 (dk_at dksX7_adds_1 4 rfl rfl)
theorem dX7_adds_29 : decode cX7_adds 29 = .ok (.invokevirtual 147, 3) := dk_182 0 147 (dk_at dksX7_adds_1 5 rfl rfl)
theorem dX7_adds_32 : decode cX7_adds 32 = .ok (.aload_n 0, 1) := dk_42 (dk_at dksX7_adds_1 8 rfl rfl)
theorem dX7_adds_33 : decode cX7_adds 33 = .ok (.iload 8, 2) := dk_21 8 (dk_at dksX7_adds_1 9 rfl rfl)
theorem dX7_adds_35 : decode cX7_adds 35 = .ok (.iconst 3, 1) := dk_6 (dk_at dksX7_adds_1 11 rfl rfl)
theorem dX7_adds_36 : decode cX7_adds 36 = .ok (.iload 4, 2) := dk_21 4 (dk_at dksX7_adds_1 12 rfl rfl)
theorem dX7_adds_38 : decode cX7_adds 38 = .ok (.invokevirtual 147, 3) := dk_182 0 147 (dk_at dksX7_adds_1 14 rfl rfl)
theorem dX7_adds_41 : decode cX7_adds 41 = .ok (.aload_n 0, 1) := dk_42 (dk_at dksX7_adds_1 17 rfl rfl)
theorem dX7_adds_42 : decode cX7_adds 42 = .ok (.iload 8, 2) := dk_21 8 (dk_at dksX7_adds_1 18 rfl rfl)
theorem dX7_adds_44 : decode cX7_adds 44 = .ok (.iconst 4, 1) := dk_7 (dk_at dksX7_adds_1 20 rfl rfl)
theorem dX7_adds_45 : decode cX7_adds 45 = .ok (.iload 5, 2) := dk_21 5 (dk_at dksX7_adds_1 21 rfl rfl)
theorem dX7_adds_47 : decode cX7_adds 47 = .ok (.invokevirtual 147, 3) := dk_182 0 147 (dk_at dksX7_adds_2 0 rfl rfl)
theorem dX7_adds_50 : decode cX7_adds 50 = .ok (.aload_n 0, 1) := dk_42 (dk_at dksX7_adds_2 3 rfl rfl)
theorem dX7_adds_51 : decode cX7_adds 51 = .ok (.iload 8, 2) := dk_21 8 (dk_at dksX7_adds_2 4 rfl rfl)
theorem dX7_adds_53 : decode cX7_adds 53 = .ok (.iconst 5, 1) := dk_8 (dk_at dksX7_adds_2 6 rfl rfl)
theorem dX7_adds_54 : decode cX7_adds 54 = .ok (.iload 6, 2) := dk_21 6 (dk_at dksX7_adds_2 7 rfl rfl)
theorem dX7_adds_56 : decode cX7_adds 56 = .ok (.invokevirtual 147, 3) := dk_182 0 147 (dk_at dksX7_adds_2 9 rfl rfl)
theorem dX7_adds_59 : decode cX7_adds 59 = .ok (.aload_n 0, 1) := dk_42 (dk_at dksX7_adds_2 12 rfl rfl)
theorem dX7_adds_60 : decode cX7_adds 60 = .ok (.iload 8, 2) := dk_21 8 (dk_at dksX7_adds_2 13 rfl rfl)
theorem dX7_adds_62 : decode cX7_adds 62 = .ok (.bipush 6, 2) := dk_16 6 (dk_at dksX7_adds_2 15 rfl rfl)
theorem dX7_adds_64 : decode cX7_adds 64 = .ok (.iload 7, 2) := dk_21 7 (dk_at dksX7_adds_2 17 rfl rfl)
theorem dX7_adds_66 : decode cX7_adds 66 = .ok (.invokevirtual 147, 3) := dk_182 0 147 (dk_at dksX7_adds_2 19 rfl rfl)
theorem dX7_adds_69 : decode cX7_adds 69 = .ok (.aload_n 0, 1) := dk_42 (dk_at dksX7_adds_2 22 rfl rfl)
theorem dX7_adds_70 : decode cX7_adds 70 = .ok (.iload 8, 2) := dk_21 8 (dk_at dksX7_adds_3 0 rfl rfl)
theorem dX7_adds_72 : decode cX7_adds 72 = .ok (.bipush 7, 2) := dk_16 7 (dk_at dksX7_adds_3 2 rfl rfl)
theorem dX7_adds_74 : decode cX7_adds 74 = .ok (.aload_n 0, 1) := dk_42 (dk_at dksX7_adds_3 4 rfl rfl)
theorem dX7_adds_75 : decode cX7_adds 75 = .ok (.getfield 7, 3) := dk_180 0 7 (dk_at dksX7_adds_3 5 rfl rfl)
theorem dX7_adds_78 : decode cX7_adds 78 = .ok (.bipush 6, 2) := dk_16 6 (dk_at dksX7_adds_3 8 rfl rfl)
theorem dX7_adds_80 : decode cX7_adds 80 = .ok (.iaload, 1) := dk_46 (dk_at dksX7_adds_3 10 rfl rfl)
theorem dX7_adds_81 : decode cX7_adds 81 = .ok (.invokevirtual 147, 3) := dk_182 0 147 (dk_at dksX7_adds_3 11 rfl rfl)
theorem dX7_adds_84 : decode cX7_adds 84 = .ok (.aload_n 0, 1) := dk_42 (dk_at dksX7_adds_3 14 rfl rfl)
theorem dX7_adds_85 : decode cX7_adds 85 = .ok (.iload 8, 2) := dk_21 8 (dk_at dksX7_adds_3 15 rfl rfl)
theorem dX7_adds_87 : decode cX7_adds 87 = .ok (.bipush 8, 2) := dk_16 8 (dk_at dksX7_adds_3 17 rfl rfl)
theorem dX7_adds_89 : decode cX7_adds 89 = .ok (.iconst 0, 1) := dk_3 (dk_at dksX7_adds_3 19 rfl rfl)
theorem dX7_adds_90 : decode cX7_adds 90 = .ok (.invokevirtual 147, 3) := dk_182 0 147 (dk_at dksX7_adds_3 20 rfl rfl)
theorem dX7_adds_93 : decode cX7_adds 93 = .ok (.aload_n 0, 1) := dk_42 (dk_at dksX7_adds_3 23 rfl rfl)
theorem dX7_adds_94 : decode cX7_adds 94 = .ok (.iload 8, 2) := dk_21 8 (dk_at dksX7_adds_4 0 rfl rfl)
theorem dX7_adds_96 : decode cX7_adds 96 = .ok (.bipush 9, 2) := dk_16 9 (dk_at dksX7_adds_4 2 rfl rfl)
theorem dX7_adds_98 : decode cX7_adds 98 = .ok (.iconst (-1), 1) := dk_2 (dk_at dksX7_adds_4 4 rfl rfl)
theorem dX7_adds_99 : decode cX7_adds 99 = .ok (.invokevirtual 147, 3) := dk_182 0 147 (dk_at dksX7_adds_4 5 rfl rfl)
theorem dX7_adds_102 : decode cX7_adds 102 = .ok (.aload_n 0, 1) := dk_42 (dk_at dksX7_adds_4 8 rfl rfl)
theorem dX7_adds_103 : decode cX7_adds 103 = .ok (.iload 8, 2) := dk_21 8 (dk_at dksX7_adds_4 9 rfl rfl)
theorem dX7_adds_105 : decode cX7_adds 105 = .ok (.bipush 10, 2) := dk_16 10 (dk_at dksX7_adds_4 11 rfl rfl)
theorem dX7_adds_107 : decode cX7_adds 107 = .ok (.iconst 0, 1) := dk_3 (dk_at dksX7_adds_4 13 rfl rfl)
theorem dX7_adds_108 : decode cX7_adds 108 = .ok (.invokevirtual 147, 3) := dk_182 0 147 (dk_at dksX7_adds_4 14 rfl rfl)
theorem dX7_adds_111 : decode cX7_adds 111 = .ok (.aload_n 0, 1) := dk_42 (dk_at dksX7_adds_4 17 rfl rfl)
theorem dX7_adds_112 : decode cX7_adds 112 = .ok (.iload 8, 2) := dk_21 8 (dk_at dksX7_adds_4 18 rfl rfl)
theorem dX7_adds_114 : decode cX7_adds 114 = .ok (.bipush 11, 2) := dk_16 11 (dk_at dksX7_adds_4 20 rfl rfl)
theorem dX7_adds_116 : decode cX7_adds 116 = .ok (.iconst 0, 1) := dk_3 (dk_at dksX7_adds_4 22 rfl rfl)
theorem dX7_adds_117 : decode cX7_adds 117 = .ok (.invokevirtual 147, 3) := dk_182 0 147 (dk_at dksX7_adds_5 0 rfl rfl)
theorem dX7_adds_120 : decode cX7_adds 120 = .ok (.aload_n 0, 1) := dk_42 (dk_at dksX7_adds_5 3 rfl rfl)
theorem dX7_adds_121 : decode cX7_adds 121 = .ok (.getfield 7, 3) := dk_180 0 7 (dk_at dksX7_adds_5 4 rfl rfl)
theorem dX7_adds_124 : decode cX7_adds 124 = .ok (.iconst 5, 1) := dk_8 (dk_at dksX7_adds_5 7 rfl rfl)
theorem dX7_adds_125 : decode cX7_adds 125 = .ok (.dup2, 1) := dk_92 (dk_at dksX7_adds_5 8 rfl rfl)
theorem dX7_adds_126 : decode cX7_adds 126 = .ok (.iaload, 1) := dk_46 (dk_at dksX7_adds_5 9 rfl rfl)
theorem dX7_adds_127 : decode cX7_adds 127 = .ok (.iconst 1, 1) := dk_4 (dk_at dksX7_adds_5 10 rfl rfl)
theorem dX7_adds_128 : decode cX7_adds 128 = .ok (.iadd, 1) := dk_96 (dk_at dksX7_adds_5 11 rfl rfl)
theorem dX7_adds_129 : decode cX7_adds 129 = .ok (.iastore, 1) := dk_79 (dk_at dksX7_adds_5 12 rfl rfl)
theorem dX7_adds_130 : decode cX7_adds 130 = .ok (.return_, 1) := dk_177 (dk_at dksX7_adds_5 13 rfl rfl)
abbrev cX7_lays : ByteArray := prog_20_method_9_code
def yX7_lays : MethodName := ⟨RX7, "lays", "(III)V"⟩
def dkwX7_lays_0 : List UInt8 := [42, 180, 0, 7, 16, 45, 16, 12, 27, 104, 96, 28, 96, 29, 79, 177]
abbrev dktX7_lays_0 : List UInt8 := dkwX7_lays_0 ++ []
theorem dksX7_lays_0 : cX7_lays.data.toList.drop 0 = dktX7_lays_0 := by decide +kernel
theorem dX7_lays_0 : decode cX7_lays 0 = .ok (.aload_n 0, 1) := dk_42 (dk_at dksX7_lays_0 0 rfl rfl)
theorem dX7_lays_1 : decode cX7_lays 1 = .ok (.getfield 7, 3) := dk_180 0 7 (dk_at dksX7_lays_0 1 rfl rfl)
theorem dX7_lays_4 : decode cX7_lays 4 = .ok (.bipush 45, 2) := dk_16 45 (dk_at dksX7_lays_0 4 rfl rfl)
theorem dX7_lays_6 : decode cX7_lays 6 = .ok (.bipush 12, 2) := dk_16 12 (dk_at dksX7_lays_0 6 rfl rfl)
theorem dX7_lays_8 : decode cX7_lays 8 = .ok (.iload_n 1, 1) := dk_27 (dk_at dksX7_lays_0 8 rfl rfl)
theorem dX7_lays_9 : decode cX7_lays 9 = .ok (.imul, 1) := dk_104 (dk_at dksX7_lays_0 9 rfl rfl)
theorem dX7_lays_10 : decode cX7_lays 10 = .ok (.iadd, 1) := dk_96 (dk_at dksX7_lays_0 10 rfl rfl)
theorem dX7_lays_11 : decode cX7_lays 11 = .ok (.iload_n 2, 1) := dk_28 (dk_at dksX7_lays_0 11 rfl rfl)
theorem dX7_lays_12 : decode cX7_lays 12 = .ok (.iadd, 1) := dk_96 (dk_at dksX7_lays_0 12 rfl rfl)
theorem dX7_lays_13 : decode cX7_lays 13 = .ok (.iload_n 3, 1) := dk_29 (dk_at dksX7_lays_0 13 rfl rfl)
theorem dX7_lays_14 : decode cX7_lays 14 = .ok (.iastore, 1) := dk_79 (dk_at dksX7_lays_0 14 rfl rfl)
theorem dX7_lays_15 : decode cX7_lays 15 = .ok (.return_, 1) := dk_177 (dk_at dksX7_lays_0 15 rfl rfl)
abbrev cX7_dampLine : ByteArray := prog_20_method_35_code
def yX7_dampLine : MethodName := ⟨RX7, "dampLine", "()V"⟩
def dkwX7_dampLine_4 : List UInt8 := [177]
abbrev dktX7_dampLine_4 : List UInt8 := dkwX7_dampLine_4 ++ []
def dkwX7_dampLine_3 : List UInt8 := [16, 9, 182, 0, 109, 61, 42, 180, 0, 25, 2, 160, 0, 13, 42, 180, 0, 7, 16, 11, 27, 96, 28, 79]
abbrev dktX7_dampLine_3 : List UInt8 := dkwX7_dampLine_3 ++ dktX7_dampLine_4
def dkwX7_dampLine_2 : List UInt8 := [153, 0, 7, 6, 167, 0, 4, 2, 60, 27, 2, 160, 0, 11, 42, 42, 182, 0, 98, 182, 0, 101, 42, 3]
abbrev dktX7_dampLine_2 : List UInt8 := dkwX7_dampLine_2 ++ dktX7_dampLine_3
def dkwX7_dampLine_1 : List UInt8 := [167, 0, 30, 42, 18, 155, 182, 0, 105, 153, 0, 7, 5, 167, 0, 17, 42, 18, 157, 182, 0, 105]
abbrev dktX7_dampLine_1 : List UInt8 := dkwX7_dampLine_1 ++ dktX7_dampLine_2
def dkwX7_dampLine_0 : List UInt8 := [42, 18, 151, 182, 0, 105, 153, 0, 7, 3, 167, 0, 43, 42, 18, 153, 182, 0, 105, 153, 0, 7, 4]
abbrev dktX7_dampLine_0 : List UInt8 := dkwX7_dampLine_0 ++ dktX7_dampLine_1
theorem dksX7_dampLine_0 : cX7_dampLine.data.toList.drop 0 = dktX7_dampLine_0 := by decide +kernel
theorem dksX7_dampLine_1 : cX7_dampLine.data.toList.drop 23 = dktX7_dampLine_1 := dk_seg dksX7_dampLine_0 23 rfl rfl
theorem dksX7_dampLine_2 : cX7_dampLine.data.toList.drop 45 = dktX7_dampLine_2 := dk_seg dksX7_dampLine_1 22 rfl rfl
theorem dksX7_dampLine_3 : cX7_dampLine.data.toList.drop 69 = dktX7_dampLine_3 := dk_seg dksX7_dampLine_2 24 rfl rfl
theorem dksX7_dampLine_4 : cX7_dampLine.data.toList.drop 93 = dktX7_dampLine_4 := dk_seg dksX7_dampLine_3 24 rfl rfl
theorem dX7_dampLine_0 : decode cX7_dampLine 0 = .ok (.aload_n 0, 1) := dk_42 (dk_at dksX7_dampLine_0 0 rfl rfl)
theorem dX7_dampLine_1 : decode cX7_dampLine 1 = .ok (.ldc 151, 2) := dk_18 151 (dk_at dksX7_dampLine_0 1 rfl rfl)
theorem dX7_dampLine_3 : decode cX7_dampLine 3 = .ok (.invokevirtual 105, 3) := dk_182 0 105 (dk_at dksX7_dampLine_0 3 rfl rfl)
theorem dX7_dampLine_6 : decode cX7_dampLine 6 = .ok (.ifCond .eq 7, 3) := dk_153 0 7 (dk_at dksX7_dampLine_0 6 rfl rfl)
theorem dX7_dampLine_9 : decode cX7_dampLine 9 = .ok (.iconst 0, 1) := dk_3 (dk_at dksX7_dampLine_0 9 rfl rfl)
theorem dX7_dampLine_10 : decode cX7_dampLine 10 = .ok (.goto 43, 3) := dk_167 0 43 (dk_at dksX7_dampLine_0 10 rfl rfl)
theorem dX7_dampLine_13 : decode cX7_dampLine 13 = .ok (.aload_n 0, 1) := dk_42 (dk_at dksX7_dampLine_0 13 rfl rfl)
theorem dX7_dampLine_14 : decode cX7_dampLine 14 = .ok (.ldc 153, 2) := dk_18 153 (dk_at dksX7_dampLine_0 14 rfl rfl)
theorem dX7_dampLine_16 : decode cX7_dampLine 16 = .ok (.invokevirtual 105, 3) := dk_182 0 105 (dk_at dksX7_dampLine_0 16 rfl rfl)
theorem dX7_dampLine_19 : decode cX7_dampLine 19 = .ok (.ifCond .eq 7, 3) := dk_153 0 7 (dk_at dksX7_dampLine_0 19 rfl rfl)
theorem dX7_dampLine_22 : decode cX7_dampLine 22 = .ok (.iconst 1, 1) := dk_4 (dk_at dksX7_dampLine_0 22 rfl rfl)
theorem dX7_dampLine_23 : decode cX7_dampLine 23 = .ok (.goto 30, 3) := dk_167 0 30 (dk_at dksX7_dampLine_1 0 rfl rfl)
theorem dX7_dampLine_26 : decode cX7_dampLine 26 = .ok (.aload_n 0, 1) := dk_42 (dk_at dksX7_dampLine_1 3 rfl rfl)
theorem dX7_dampLine_27 : decode cX7_dampLine 27 = .ok (.ldc 155, 2) := dk_18 155 (dk_at dksX7_dampLine_1 4 rfl rfl)
theorem dX7_dampLine_29 : decode cX7_dampLine 29 = .ok (.invokevirtual 105, 3) := dk_182 0 105 (dk_at dksX7_dampLine_1 6 rfl rfl)
theorem dX7_dampLine_32 : decode cX7_dampLine 32 = .ok (.ifCond .eq 7, 3) := dk_153 0 7 (dk_at dksX7_dampLine_1 9 rfl rfl)
theorem dX7_dampLine_35 : decode cX7_dampLine 35 = .ok (.iconst 2, 1) := dk_5 (dk_at dksX7_dampLine_1 12 rfl rfl)
theorem dX7_dampLine_36 : decode cX7_dampLine 36 = .ok (.goto 17, 3) := dk_167 0 17 (dk_at dksX7_dampLine_1 13 rfl rfl)
theorem dX7_dampLine_39 : decode cX7_dampLine 39 = .ok (.aload_n 0, 1) := dk_42 (dk_at dksX7_dampLine_1 16 rfl rfl)
theorem dX7_dampLine_40 : decode cX7_dampLine 40 = .ok (.ldc 157, 2) := dk_18 157 (dk_at dksX7_dampLine_1 17 rfl rfl)
theorem dX7_dampLine_42 : decode cX7_dampLine 42 = .ok (.invokevirtual 105, 3) := dk_182 0 105 (dk_at dksX7_dampLine_1 19 rfl rfl)
theorem dX7_dampLine_45 : decode cX7_dampLine 45 = .ok (.ifCond .eq 7, 3) := dk_153 0 7 (dk_at dksX7_dampLine_2 0 rfl rfl)
theorem dX7_dampLine_48 : decode cX7_dampLine 48 = .ok (.iconst 3, 1) := dk_6 (dk_at dksX7_dampLine_2 3 rfl rfl)
theorem dX7_dampLine_49 : decode cX7_dampLine 49 = .ok (.goto 4, 3) := dk_167 0 4 (dk_at dksX7_dampLine_2 4 rfl rfl)
theorem dX7_dampLine_52 : decode cX7_dampLine 52 = .ok (.iconst (-1), 1) := dk_2 (dk_at dksX7_dampLine_2 7 rfl rfl)
theorem dX7_dampLine_53 : decode cX7_dampLine 53 = .ok (.istore_n 1, 1) := dk_60 (dk_at dksX7_dampLine_2 8 rfl rfl)
theorem dX7_dampLine_54 : decode cX7_dampLine 54 = .ok (.iload_n 1, 1) := dk_27 (dk_at dksX7_dampLine_2 9 rfl rfl)
theorem dX7_dampLine_55 : decode cX7_dampLine 55 = .ok (.iconst (-1), 1) := dk_2 (dk_at dksX7_dampLine_2 10 rfl rfl)
theorem dX7_dampLine_56 : decode cX7_dampLine 56 = .ok (.if_icmp .ne 11, 3) := dk_160 0 11 (dk_at dksX7_dampLine_2 11 rfl rfl)
theorem dX7_dampLine_59 : decode cX7_dampLine 59 = .ok (.aload_n 0, 1) := dk_42 (dk_at dksX7_dampLine_2 14 rfl rfl)
theorem dX7_dampLine_60 : decode cX7_dampLine 60 = .ok (.aload_n 0, 1) := dk_42 (dk_at dksX7_dampLine_2 15 rfl rfl)
theorem dX7_dampLine_61 : decode cX7_dampLine 61 = .ok (.invokevirtual 98, 3) := dk_182 0 98 (dk_at dksX7_dampLine_2 16 rfl rfl)
theorem dX7_dampLine_64 : decode cX7_dampLine 64 = .ok (.invokevirtual 101, 3) := dk_182 0 101 (dk_at dksX7_dampLine_2 19 rfl rfl)
theorem dX7_dampLine_67 : decode cX7_dampLine 67 = .ok (.aload_n 0, 1) := dk_42 (dk_at dksX7_dampLine_2 22 rfl rfl)
theorem dX7_dampLine_68 : decode cX7_dampLine 68 = .ok (.iconst 0, 1) := dk_3 (dk_at dksX7_dampLine_2 23 rfl rfl)
theorem dX7_dampLine_69 : decode cX7_dampLine 69 = .ok (.bipush 9, 2) := dk_16 9 (dk_at dksX7_dampLine_3 0 rfl rfl)
theorem dX7_dampLine_71 : decode cX7_dampLine 71 = .ok (.invokevirtual 109, 3) := dk_182 0 109 (dk_at dksX7_dampLine_3 2 rfl rfl)
theorem dX7_dampLine_74 : decode cX7_dampLine 74 = .ok (.istore_n 2, 1) := dk_61 (dk_at dksX7_dampLine_3 5 rfl rfl)
theorem dX7_dampLine_75 : decode cX7_dampLine 75 = .ok (.aload_n 0, 1) := dk_42 (dk_at dksX7_dampLine_3 6 rfl rfl)
theorem dX7_dampLine_76 : decode cX7_dampLine 76 = .ok (.getfield 25, 3) := dk_180 0 25 (dk_at dksX7_dampLine_3 7 rfl rfl)
theorem dX7_dampLine_79 : decode cX7_dampLine 79 = .ok (.iconst (-1), 1) := dk_2 (dk_at dksX7_dampLine_3 10 rfl rfl)
theorem dX7_dampLine_80 : decode cX7_dampLine 80 = .ok (.if_icmp .ne 13, 3) := dk_160 0 13 (dk_at dksX7_dampLine_3 11 rfl rfl)
theorem dX7_dampLine_83 : decode cX7_dampLine 83 = .ok (.aload_n 0, 1) := dk_42 (dk_at dksX7_dampLine_3 14 rfl rfl)
theorem dX7_dampLine_84 : decode cX7_dampLine 84 = .ok (.getfield 7, 3) := dk_180 0 7 (dk_at dksX7_dampLine_3 15 rfl rfl)
theorem dX7_dampLine_87 : decode cX7_dampLine 87 = .ok (.bipush 11, 2) := dk_16 11 (dk_at dksX7_dampLine_3 18 rfl rfl)
theorem dX7_dampLine_89 : decode cX7_dampLine 89 = .ok (.iload_n 1, 1) := dk_27 (dk_at dksX7_dampLine_3 20 rfl rfl)
theorem dX7_dampLine_90 : decode cX7_dampLine 90 = .ok (.iadd, 1) := dk_96 (dk_at dksX7_dampLine_3 21 rfl rfl)
theorem dX7_dampLine_91 : decode cX7_dampLine 91 = .ok (.iload_n 2, 1) := dk_28 (dk_at dksX7_dampLine_3 22 rfl rfl)
theorem dX7_dampLine_92 : decode cX7_dampLine 92 = .ok (.iastore, 1) := dk_79 (dk_at dksX7_dampLine_3 23 rfl rfl)
theorem dX7_dampLine_93 : decode cX7_dampLine 93 = .ok (.return_, 1) := dk_177 (dk_at dksX7_dampLine_4 0 rfl rfl)
abbrev cX7_tells : ByteArray := prog_20_method_36_code
def yX7_tells : MethodName := ⟨RX7, "tells", "(III)V"⟩
def dkwX7_tells_1 : List UInt8 := [177]
abbrev dktX7_tells_1 : List UInt8 := dkwX7_tells_1 ++ []
def dkwX7_tells_0 : List UInt8 := [42, 28, 29, 182, 0, 109, 54, 4, 42, 180, 0, 25, 2, 160, 0, 11, 42, 180, 0, 7, 27, 21, 4, 79]
abbrev dktX7_tells_0 : List UInt8 := dkwX7_tells_0 ++ dktX7_tells_1
theorem dksX7_tells_0 : cX7_tells.data.toList.drop 0 = dktX7_tells_0 := by decide +kernel
theorem dksX7_tells_1 : cX7_tells.data.toList.drop 24 = dktX7_tells_1 := dk_seg dksX7_tells_0 24 rfl rfl
theorem dX7_tells_0 : decode cX7_tells 0 = .ok (.aload_n 0, 1) := dk_42 (dk_at dksX7_tells_0 0 rfl rfl)
theorem dX7_tells_1 : decode cX7_tells 1 = .ok (.iload_n 2, 1) := dk_28 (dk_at dksX7_tells_0 1 rfl rfl)
theorem dX7_tells_2 : decode cX7_tells 2 = .ok (.iload_n 3, 1) := dk_29 (dk_at dksX7_tells_0 2 rfl rfl)
theorem dX7_tells_3 : decode cX7_tells 3 = .ok (.invokevirtual 109, 3) := dk_182 0 109 (dk_at dksX7_tells_0 3 rfl rfl)
theorem dX7_tells_6 : decode cX7_tells 6 = .ok (.istore 4, 2) := dk_54 4 (dk_at dksX7_tells_0 6 rfl rfl)
theorem dX7_tells_8 : decode cX7_tells 8 = .ok (.aload_n 0, 1) := dk_42 (dk_at dksX7_tells_0 8 rfl rfl)
theorem dX7_tells_9 : decode cX7_tells 9 = .ok (.getfield 25, 3) := dk_180 0 25 (dk_at dksX7_tells_0 9 rfl rfl)
theorem dX7_tells_12 : decode cX7_tells 12 = .ok (.iconst (-1), 1) := dk_2 (dk_at dksX7_tells_0 12 rfl rfl)
theorem dX7_tells_13 : decode cX7_tells 13 = .ok (.if_icmp .ne 11, 3) := dk_160 0 11 (dk_at dksX7_tells_0 13 rfl rfl)
theorem dX7_tells_16 : decode cX7_tells 16 = .ok (.aload_n 0, 1) := dk_42 (dk_at dksX7_tells_0 16 rfl rfl)
theorem dX7_tells_17 : decode cX7_tells 17 = .ok (.getfield 7, 3) := dk_180 0 7 (dk_at dksX7_tells_0 17 rfl rfl)
theorem dX7_tells_20 : decode cX7_tells 20 = .ok (.iload_n 1, 1) := dk_27 (dk_at dksX7_tells_0 20 rfl rfl)
theorem dX7_tells_21 : decode cX7_tells 21 = .ok (.iload 4, 2) := dk_21 4 (dk_at dksX7_tells_0 21 rfl rfl)
theorem dX7_tells_23 : decode cX7_tells 23 = .ok (.iastore, 1) := dk_79 (dk_at dksX7_tells_0 23 rfl rfl)
theorem dX7_tells_24 : decode cX7_tells 24 = .ok (.return_, 1) := dk_177 (dk_at dksX7_tells_1 0 rfl rfl)
abbrev cX7_comesBack : ByteArray := prog_20_method_41_code
def yX7_comesBack : MethodName := ⟨RX7, "comesBack", "()V"⟩
def dkwX7_comesBack_1 : List UInt8 := [167, 255, 234, 177]
abbrev dktX7_comesBack_1 : List UInt8 := dkwX7_comesBack_1 ++ []
def dkwX7_comesBack_0 : List UInt8 := [3, 60, 27, 17, 1, 125, 162, 0, 21, 42, 180, 0, 7, 27, 42, 180, 0, 16, 27, 46, 79, 132, 1, 1]
abbrev dktX7_comesBack_0 : List UInt8 := dkwX7_comesBack_0 ++ dktX7_comesBack_1
theorem dksX7_comesBack_0 : cX7_comesBack.data.toList.drop 0 = dktX7_comesBack_0 := by decide +kernel
theorem dksX7_comesBack_1 : cX7_comesBack.data.toList.drop 24 = dktX7_comesBack_1 := dk_seg dksX7_comesBack_0 24 rfl rfl
theorem dX7_comesBack_0 : decode cX7_comesBack 0 = .ok (.iconst 0, 1) := dk_3 (dk_at dksX7_comesBack_0 0 rfl rfl)
theorem dX7_comesBack_1 : decode cX7_comesBack 1 = .ok (.istore_n 1, 1) := dk_60 (dk_at dksX7_comesBack_0 1 rfl rfl)
theorem dX7_comesBack_2 : decode cX7_comesBack 2 = .ok (.iload_n 1, 1) := dk_27 (dk_at dksX7_comesBack_0 2 rfl rfl)
theorem dX7_comesBack_3 : decode cX7_comesBack 3 = .ok (.sipush 381, 3) := dk_17 1 125 (dk_at dksX7_comesBack_0 3 rfl rfl)
theorem dX7_comesBack_6 : decode cX7_comesBack 6 = .ok (.if_icmp .ge 21, 3) := dk_162 0 21 (dk_at dksX7_comesBack_0 6 rfl rfl)
theorem dX7_comesBack_9 : decode cX7_comesBack 9 = .ok (.aload_n 0, 1) := dk_42 (dk_at dksX7_comesBack_0 9 rfl rfl)
theorem dX7_comesBack_10 : decode cX7_comesBack 10 = .ok (.getfield 7, 3) := dk_180 0 7 (dk_at dksX7_comesBack_0 10 rfl rfl)
theorem dX7_comesBack_13 : decode cX7_comesBack 13 = .ok (.iload_n 1, 1) := dk_27 (dk_at dksX7_comesBack_0 13 rfl rfl)
theorem dX7_comesBack_14 : decode cX7_comesBack 14 = .ok (.aload_n 0, 1) := dk_42 (dk_at dksX7_comesBack_0 14 rfl rfl)
theorem dX7_comesBack_15 : decode cX7_comesBack 15 = .ok (.getfield 16, 3) := dk_180 0 16 (dk_at dksX7_comesBack_0 15 rfl rfl)
theorem dX7_comesBack_18 : decode cX7_comesBack 18 = .ok (.iload_n 1, 1) := dk_27 (dk_at dksX7_comesBack_0 18 rfl rfl)
theorem dX7_comesBack_19 : decode cX7_comesBack 19 = .ok (.iaload, 1) := dk_46 (dk_at dksX7_comesBack_0 19 rfl rfl)
theorem dX7_comesBack_20 : decode cX7_comesBack 20 = .ok (.iastore, 1) := dk_79 (dk_at dksX7_comesBack_0 20 rfl rfl)
theorem dX7_comesBack_21 : decode cX7_comesBack 21 = .ok (.iinc 1 1, 3) := dk_132 1 1 (dk_at dksX7_comesBack_0 21 rfl rfl)
theorem dX7_comesBack_24 : decode cX7_comesBack 24 = .ok (.goto (-22), 3) := dk_167 255 234 (dk_at dksX7_comesBack_1 0 rfl rfl)
theorem dX7_comesBack_27 : decode cX7_comesBack 27 = .ok (.return_, 1) := dk_177 (dk_at dksX7_comesBack_1 3 rfl rfl)
abbrev cX7_law : ByteArray := prog_20_method_50_code
def yX7_law : MethodName := ⟨RX7, "law", "()I"⟩
def dkwX7_law_3 : List UInt8 := [42, 180, 0, 22, 28, 46, 79, 132, 2, 1, 167, 255, 229, 42, 3, 181, 0, 212, 27, 172]
abbrev dktX7_law_3 : List UInt8 := dkwX7_law_3 ++ []
def dkwX7_law_2 : List UInt8 := [42, 180, 0, 79, 79, 3, 61, 28, 42, 180, 0, 79, 162, 0, 25, 42, 180, 0, 7, 17, 1, 125, 28, 96]
abbrev dktX7_law_2 : List UInt8 := dkwX7_law_2 ++ dktX7_law_3
def dkwX7_law_1 : List UInt8 := [181, 0, 45, 42, 180, 0, 45, 158, 0, 5, 3, 172, 42, 180, 0, 7, 4, 27, 79, 42, 180, 0, 7, 5]
abbrev dktX7_law_1 : List UInt8 := dkwX7_law_1 ++ dktX7_law_2
def dkwX7_law_0 : List UInt8 := [42, 182, 0, 202, 42, 4, 182, 0, 205, 60, 42, 42, 180, 0, 25, 2, 159, 0, 7, 4, 167, 0, 4, 3]
abbrev dktX7_law_0 : List UInt8 := dkwX7_law_0 ++ dktX7_law_1
theorem dksX7_law_0 : cX7_law.data.toList.drop 0 = dktX7_law_0 := by decide +kernel
theorem dksX7_law_1 : cX7_law.data.toList.drop 24 = dktX7_law_1 := dk_seg dksX7_law_0 24 rfl rfl
theorem dksX7_law_2 : cX7_law.data.toList.drop 48 = dktX7_law_2 := dk_seg dksX7_law_1 24 rfl rfl
theorem dksX7_law_3 : cX7_law.data.toList.drop 72 = dktX7_law_3 := dk_seg dksX7_law_2 24 rfl rfl
theorem dX7_law_0 : decode cX7_law 0 = .ok (.aload_n 0, 1) := dk_42 (dk_at dksX7_law_0 0 rfl rfl)
theorem dX7_law_1 : decode cX7_law 1 = .ok (.invokevirtual 202, 3) := dk_182 0 202 (dk_at dksX7_law_0 1 rfl rfl)
theorem dX7_law_4 : decode cX7_law 4 = .ok (.aload_n 0, 1) := dk_42 (dk_at dksX7_law_0 4 rfl rfl)
theorem dX7_law_5 : decode cX7_law 5 = .ok (.iconst 1, 1) := dk_4 (dk_at dksX7_law_0 5 rfl rfl)
theorem dX7_law_6 : decode cX7_law 6 = .ok (.invokevirtual 205, 3) := dk_182 0 205 (dk_at dksX7_law_0 6 rfl rfl)
theorem dX7_law_9 : decode cX7_law 9 = .ok (.istore_n 1, 1) := dk_60 (dk_at dksX7_law_0 9 rfl rfl)
theorem dX7_law_10 : decode cX7_law 10 = .ok (.aload_n 0, 1) := dk_42 (dk_at dksX7_law_0 10 rfl rfl)
theorem dX7_law_11 : decode cX7_law 11 = .ok (.aload_n 0, 1) := dk_42 (dk_at dksX7_law_0 11 rfl rfl)
theorem dX7_law_12 : decode cX7_law 12 = .ok (.getfield 25, 3) := dk_180 0 25 (dk_at dksX7_law_0 12 rfl rfl)
theorem dX7_law_15 : decode cX7_law 15 = .ok (.iconst (-1), 1) := dk_2 (dk_at dksX7_law_0 15 rfl rfl)
theorem dX7_law_16 : decode cX7_law 16 = .ok (.if_icmp .eq 7, 3) := dk_159 0 7 (dk_at dksX7_law_0 16 rfl rfl)
theorem dX7_law_19 : decode cX7_law 19 = .ok (.iconst 1, 1) := dk_4 (dk_at dksX7_law_0 19 rfl rfl)
theorem dX7_law_20 : decode cX7_law 20 = .ok (.goto 4, 3) := dk_167 0 4 (dk_at dksX7_law_0 20 rfl rfl)
theorem dX7_law_23 : decode cX7_law 23 = .ok (.iconst 0, 1) := dk_3 (dk_at dksX7_law_0 23 rfl rfl)
theorem dX7_law_24 : decode cX7_law 24 = .ok (.putfield 45, 3) := dk_181 0 45 (dk_at dksX7_law_1 0 rfl rfl)
theorem dX7_law_27 : decode cX7_law 27 = .ok (.aload_n 0, 1) := dk_42 (dk_at dksX7_law_1 3 rfl rfl)
theorem dX7_law_28 : decode cX7_law 28 = .ok (.getfield 45, 3) := dk_180 0 45 (dk_at dksX7_law_1 4 rfl rfl)
theorem dX7_law_31 : decode cX7_law 31 = .ok (.ifCond .le 5, 3) := dk_158 0 5 (dk_at dksX7_law_1 7 rfl rfl)
theorem dX7_law_34 : decode cX7_law 34 = .ok (.iconst 0, 1) := dk_3 (dk_at dksX7_law_1 10 rfl rfl)
theorem dX7_law_35 : decode cX7_law 35 = .ok (.ireturn, 1) := dk_172 (dk_at dksX7_law_1 11 rfl rfl)
theorem dX7_law_36 : decode cX7_law 36 = .ok (.aload_n 0, 1) := dk_42 (dk_at dksX7_law_1 12 rfl rfl)
theorem dX7_law_37 : decode cX7_law 37 = .ok (.getfield 7, 3) := dk_180 0 7 (dk_at dksX7_law_1 13 rfl rfl)
theorem dX7_law_40 : decode cX7_law 40 = .ok (.iconst 1, 1) := dk_4 (dk_at dksX7_law_1 16 rfl rfl)
theorem dX7_law_41 : decode cX7_law 41 = .ok (.iload_n 1, 1) := dk_27 (dk_at dksX7_law_1 17 rfl rfl)
theorem dX7_law_42 : decode cX7_law 42 = .ok (.iastore, 1) := dk_79 (dk_at dksX7_law_1 18 rfl rfl)
theorem dX7_law_43 : decode cX7_law 43 = .ok (.aload_n 0, 1) := dk_42 (dk_at dksX7_law_1 19 rfl rfl)
theorem dX7_law_44 : decode cX7_law 44 = .ok (.getfield 7, 3) := dk_180 0 7 (dk_at dksX7_law_1 20 rfl rfl)
theorem dX7_law_47 : decode cX7_law 47 = .ok (.iconst 2, 1) := dk_5 (dk_at dksX7_law_1 23 rfl rfl)
theorem dX7_law_48 : decode cX7_law 48 = .ok (.aload_n 0, 1) := dk_42 (dk_at dksX7_law_2 0 rfl rfl)
theorem dX7_law_49 : decode cX7_law 49 = .ok (.getfield 79, 3) := dk_180 0 79 (dk_at dksX7_law_2 1 rfl rfl)
theorem dX7_law_52 : decode cX7_law 52 = .ok (.iastore, 1) := dk_79 (dk_at dksX7_law_2 4 rfl rfl)
theorem dX7_law_53 : decode cX7_law 53 = .ok (.iconst 0, 1) := dk_3 (dk_at dksX7_law_2 5 rfl rfl)
theorem dX7_law_54 : decode cX7_law 54 = .ok (.istore_n 2, 1) := dk_61 (dk_at dksX7_law_2 6 rfl rfl)
theorem dX7_law_55 : decode cX7_law 55 = .ok (.iload_n 2, 1) := dk_28 (dk_at dksX7_law_2 7 rfl rfl)
theorem dX7_law_56 : decode cX7_law 56 = .ok (.aload_n 0, 1) := dk_42 (dk_at dksX7_law_2 8 rfl rfl)
theorem dX7_law_57 : decode cX7_law 57 = .ok (.getfield 79, 3) := dk_180 0 79 (dk_at dksX7_law_2 9 rfl rfl)
theorem dX7_law_60 : decode cX7_law 60 = .ok (.if_icmp .ge 25, 3) := dk_162 0 25 (dk_at dksX7_law_2 12 rfl rfl)
theorem dX7_law_63 : decode cX7_law 63 = .ok (.aload_n 0, 1) := dk_42 (dk_at dksX7_law_2 15 rfl rfl)
theorem dX7_law_64 : decode cX7_law 64 = .ok (.getfield 7, 3) := dk_180 0 7 (dk_at dksX7_law_2 16 rfl rfl)
theorem dX7_law_67 : decode cX7_law 67 = .ok (.sipush 381, 3) := dk_17 1 125 (dk_at dksX7_law_2 19 rfl rfl)
theorem dX7_law_70 : decode cX7_law 70 = .ok (.iload_n 2, 1) := dk_28 (dk_at dksX7_law_2 22 rfl rfl)
theorem dX7_law_71 : decode cX7_law 71 = .ok (.iadd, 1) := dk_96 (dk_at dksX7_law_2 23 rfl rfl)
theorem dX7_law_72 : decode cX7_law 72 = .ok (.aload_n 0, 1) := dk_42 (dk_at dksX7_law_3 0 rfl rfl)
theorem dX7_law_73 : decode cX7_law 73 = .ok (.getfield 22, 3) := dk_180 0 22 (dk_at dksX7_law_3 1 rfl rfl)
theorem dX7_law_76 : decode cX7_law 76 = .ok (.iload_n 2, 1) := dk_28 (dk_at dksX7_law_3 4 rfl rfl)
theorem dX7_law_77 : decode cX7_law 77 = .ok (.iaload, 1) := dk_46 (dk_at dksX7_law_3 5 rfl rfl)
theorem dX7_law_78 : decode cX7_law 78 = .ok (.iastore, 1) := dk_79 (dk_at dksX7_law_3 6 rfl rfl)
theorem dX7_law_79 : decode cX7_law 79 = .ok (.iinc 2 1, 3) := dk_132 2 1 (dk_at dksX7_law_3 7 rfl rfl)
theorem dX7_law_82 : decode cX7_law 82 = .ok (.goto (-27), 3) := dk_167 255 229 (dk_at dksX7_law_3 10 rfl rfl)
theorem dX7_law_85 : decode cX7_law 85 = .ok (.aload_n 0, 1) := dk_42 (dk_at dksX7_law_3 13 rfl rfl)
theorem dX7_law_86 : decode cX7_law 86 = .ok (.iconst 0, 1) := dk_3 (dk_at dksX7_law_3 14 rfl rfl)
theorem dX7_law_87 : decode cX7_law 87 = .ok (.putfield 212, 3) := dk_181 0 212 (dk_at dksX7_law_3 15 rfl rfl)
theorem dX7_law_90 : decode cX7_law 90 = .ok (.iload_n 1, 1) := dk_27 (dk_at dksX7_law_3 18 rfl rfl)
theorem dX7_law_91 : decode cX7_law 91 = .ok (.ireturn, 1) := dk_172 (dk_at dksX7_law_3 19 rfl rfl)
abbrev cX7_fault : ByteArray := prog_20_method_51_code
def yX7_fault : MethodName := ⟨RX7, "fault", "()I"⟩
def dkwX7_fault_0 : List UInt8 := [42, 3, 181, 0, 45, 42, 180, 0, 25, 172]
abbrev dktX7_fault_0 : List UInt8 := dkwX7_fault_0 ++ []
theorem dksX7_fault_0 : cX7_fault.data.toList.drop 0 = dktX7_fault_0 := by decide +kernel
theorem dX7_fault_0 : decode cX7_fault 0 = .ok (.aload_n 0, 1) := dk_42 (dk_at dksX7_fault_0 0 rfl rfl)
theorem dX7_fault_1 : decode cX7_fault 1 = .ok (.iconst 0, 1) := dk_3 (dk_at dksX7_fault_0 1 rfl rfl)
theorem dX7_fault_2 : decode cX7_fault 2 = .ok (.putfield 45, 3) := dk_181 0 45 (dk_at dksX7_fault_0 2 rfl rfl)
theorem dX7_fault_5 : decode cX7_fault 5 = .ok (.aload_n 0, 1) := dk_42 (dk_at dksX7_fault_0 5 rfl rfl)
theorem dX7_fault_6 : decode cX7_fault 6 = .ok (.getfield 25, 3) := dk_180 0 25 (dk_at dksX7_fault_0 6 rfl rfl)
theorem dX7_fault_9 : decode cX7_fault 9 = .ok (.ireturn, 1) := dk_172 (dk_at dksX7_fault_0 9 rfl rfl)
abbrev cX7_party : ByteArray := prog_20_method_64_code
def yX7_party : MethodName := ⟨RX7, "party", "(II)I"⟩
def dkwX7_party_5 : List UInt8 := [42, 27, 182, 1, 60, 172]
abbrev dktX7_party_5 : List UInt8 := dkwX7_party_5 ++ []
def dkwX7_party_4 : List UInt8 := [42, 27, 4, 182, 1, 56, 182, 1, 47, 172, 28, 8, 160, 0, 12, 42, 27, 4, 182, 1, 56, 167, 0, 8]
abbrev dktX7_party_4 : List UInt8 := dkwX7_party_4 ++ dktX7_party_5
def dkwX7_party_3 : List UInt8 := [28, 6, 160, 0, 15, 42, 27, 42, 27, 3, 182, 1, 56, 182, 1, 47, 172, 28, 7, 160, 0, 15, 42, 27]
abbrev dktX7_party_3 : List UInt8 := dkwX7_party_3 ++ dktX7_party_4
def dkwX7_party_2 : List UInt8 := [180, 0, 7, 16, 15, 5, 27, 104, 96, 28, 96, 46, 172, 28, 5, 160, 0, 9, 42, 27, 182, 1, 53, 172]
abbrev dktX7_party_2 : List UInt8 := dkwX7_party_2 ++ dktX7_party_3
def dkwX7_party_1 : List UInt8 := [167, 0, 4, 3, 181, 0, 45, 42, 180, 0, 45, 158, 0, 5, 3, 172, 28, 5, 162, 0, 17, 42]
abbrev dktX7_party_1 : List UInt8 := dkwX7_party_1 ++ dktX7_party_2
def dkwX7_party_0 : List UInt8 := [42, 42, 27, 182, 1, 50, 154, 0, 7, 4, 167, 0, 18, 28, 3, 16, 6, 184, 0, 48, 154, 0, 7, 5]
abbrev dktX7_party_0 : List UInt8 := dkwX7_party_0 ++ dktX7_party_1
theorem dksX7_party_0 : cX7_party.data.toList.drop 0 = dktX7_party_0 := by decide +kernel
theorem dksX7_party_1 : cX7_party.data.toList.drop 24 = dktX7_party_1 := dk_seg dksX7_party_0 24 rfl rfl
theorem dksX7_party_2 : cX7_party.data.toList.drop 46 = dktX7_party_2 := dk_seg dksX7_party_1 22 rfl rfl
theorem dksX7_party_3 : cX7_party.data.toList.drop 70 = dktX7_party_3 := dk_seg dksX7_party_2 24 rfl rfl
theorem dksX7_party_4 : cX7_party.data.toList.drop 94 = dktX7_party_4 := dk_seg dksX7_party_3 24 rfl rfl
theorem dksX7_party_5 : cX7_party.data.toList.drop 118 = dktX7_party_5 := dk_seg dksX7_party_4 24 rfl rfl
theorem dX7_party_0 : decode cX7_party 0 = .ok (.aload_n 0, 1) := dk_42 (dk_at dksX7_party_0 0 rfl rfl)
theorem dX7_party_1 : decode cX7_party 1 = .ok (.aload_n 0, 1) := dk_42 (dk_at dksX7_party_0 1 rfl rfl)
theorem dX7_party_2 : decode cX7_party 2 = .ok (.iload_n 1, 1) := dk_27 (dk_at dksX7_party_0 2 rfl rfl)
theorem dX7_party_3 : decode cX7_party 3 = .ok (.invokevirtual 306, 3) := dk_182 1 50 (dk_at dksX7_party_0 3 rfl rfl)
theorem dX7_party_6 : decode cX7_party 6 = .ok (.ifCond .ne 7, 3) := dk_154 0 7 (dk_at dksX7_party_0 6 rfl rfl)
theorem dX7_party_9 : decode cX7_party 9 = .ok (.iconst 1, 1) := dk_4 (dk_at dksX7_party_0 9 rfl rfl)
theorem dX7_party_10 : decode cX7_party 10 = .ok (.goto 18, 3) := dk_167 0 18 (dk_at dksX7_party_0 10 rfl rfl)
theorem dX7_party_13 : decode cX7_party 13 = .ok (.iload_n 2, 1) := dk_28 (dk_at dksX7_party_0 13 rfl rfl)
theorem dX7_party_14 : decode cX7_party 14 = .ok (.iconst 0, 1) := dk_3 (dk_at dksX7_party_0 14 rfl rfl)
theorem dX7_party_15 : decode cX7_party 15 = .ok (.bipush 6, 2) := dk_16 6 (dk_at dksX7_party_0 15 rfl rfl)
theorem dX7_party_17 : decode cX7_party 17 = .ok (.invokestatic 48, 3) := dk_184 0 48 (dk_at dksX7_party_0 17 rfl rfl)
theorem dX7_party_20 : decode cX7_party 20 = .ok (.ifCond .ne 7, 3) := dk_154 0 7 (dk_at dksX7_party_0 20 rfl rfl)
theorem dX7_party_23 : decode cX7_party 23 = .ok (.iconst 2, 1) := dk_5 (dk_at dksX7_party_0 23 rfl rfl)
theorem dX7_party_24 : decode cX7_party 24 = .ok (.goto 4, 3) := dk_167 0 4 (dk_at dksX7_party_1 0 rfl rfl)
theorem dX7_party_27 : decode cX7_party 27 = .ok (.iconst 0, 1) := dk_3 (dk_at dksX7_party_1 3 rfl rfl)
theorem dX7_party_28 : decode cX7_party 28 = .ok (.putfield 45, 3) := dk_181 0 45 (dk_at dksX7_party_1 4 rfl rfl)
theorem dX7_party_31 : decode cX7_party 31 = .ok (.aload_n 0, 1) := dk_42 (dk_at dksX7_party_1 7 rfl rfl)
theorem dX7_party_32 : decode cX7_party 32 = .ok (.getfield 45, 3) := dk_180 0 45 (dk_at dksX7_party_1 8 rfl rfl)
theorem dX7_party_35 : decode cX7_party 35 = .ok (.ifCond .le 5, 3) := dk_158 0 5 (dk_at dksX7_party_1 11 rfl rfl)
theorem dX7_party_38 : decode cX7_party 38 = .ok (.iconst 0, 1) := dk_3 (dk_at dksX7_party_1 14 rfl rfl)
theorem dX7_party_39 : decode cX7_party 39 = .ok (.ireturn, 1) := dk_172 (dk_at dksX7_party_1 15 rfl rfl)
theorem dX7_party_40 : decode cX7_party 40 = .ok (.iload_n 2, 1) := dk_28 (dk_at dksX7_party_1 16 rfl rfl)
theorem dX7_party_41 : decode cX7_party 41 = .ok (.iconst 2, 1) := dk_5 (dk_at dksX7_party_1 17 rfl rfl)
theorem dX7_party_42 : decode cX7_party 42 = .ok (.if_icmp .ge 17, 3) := dk_162 0 17 (dk_at dksX7_party_1 18 rfl rfl)
theorem dX7_party_45 : decode cX7_party 45 = .ok (.aload_n 0, 1) := dk_42 (dk_at dksX7_party_1 21 rfl rfl)
theorem dX7_party_46 : decode cX7_party 46 = .ok (.getfield 7, 3) := dk_180 0 7 (dk_at dksX7_party_2 0 rfl rfl)
theorem dX7_party_49 : decode cX7_party 49 = .ok (.bipush 15, 2) := dk_16 15 (dk_at dksX7_party_2 3 rfl rfl)
theorem dX7_party_51 : decode cX7_party 51 = .ok (.iconst 2, 1) := dk_5 (dk_at dksX7_party_2 5 rfl rfl)
theorem dX7_party_52 : decode cX7_party 52 = .ok (.iload_n 1, 1) := dk_27 (dk_at dksX7_party_2 6 rfl rfl)
theorem dX7_party_53 : decode cX7_party 53 = .ok (.imul, 1) := dk_104 (dk_at dksX7_party_2 7 rfl rfl)
theorem dX7_party_54 : decode cX7_party 54 = .ok (.iadd, 1) := dk_96 (dk_at dksX7_party_2 8 rfl rfl)
theorem dX7_party_55 : decode cX7_party 55 = .ok (.iload_n 2, 1) := dk_28 (dk_at dksX7_party_2 9 rfl rfl)
theorem dX7_party_56 : decode cX7_party 56 = .ok (.iadd, 1) := dk_96 (dk_at dksX7_party_2 10 rfl rfl)
theorem dX7_party_57 : decode cX7_party 57 = .ok (.iaload, 1) := dk_46 (dk_at dksX7_party_2 11 rfl rfl)
theorem dX7_party_58 : decode cX7_party 58 = .ok (.ireturn, 1) := dk_172 (dk_at dksX7_party_2 12 rfl rfl)
theorem dX7_party_59 : decode cX7_party 59 = .ok (.iload_n 2, 1) := dk_28 (dk_at dksX7_party_2 13 rfl rfl)
theorem dX7_party_60 : decode cX7_party 60 = .ok (.iconst 2, 1) := dk_5 (dk_at dksX7_party_2 14 rfl rfl)
theorem dX7_party_61 : decode cX7_party 61 = .ok (.if_icmp .ne 9, 3) := dk_160 0 9 (dk_at dksX7_party_2 15 rfl rfl)
theorem dX7_party_64 : decode cX7_party 64 = .ok (.aload_n 0, 1) := dk_42 (dk_at dksX7_party_2 18 rfl rfl)
theorem dX7_party_65 : decode cX7_party 65 = .ok (.iload_n 1, 1) := dk_27 (dk_at dksX7_party_2 19 rfl rfl)
theorem dX7_party_66 : decode cX7_party 66 = .ok (.invokevirtual 309, 3) := dk_182 1 53 (dk_at dksX7_party_2 20 rfl rfl)
theorem dX7_party_69 : decode cX7_party 69 = .ok (.ireturn, 1) := dk_172 (dk_at dksX7_party_2 23 rfl rfl)
theorem dX7_party_70 : decode cX7_party 70 = .ok (.iload_n 2, 1) := dk_28 (dk_at dksX7_party_3 0 rfl rfl)
theorem dX7_party_71 : decode cX7_party 71 = .ok (.iconst 3, 1) := dk_6 (dk_at dksX7_party_3 1 rfl rfl)
theorem dX7_party_72 : decode cX7_party 72 = .ok (.if_icmp .ne 15, 3) := dk_160 0 15 (dk_at dksX7_party_3 2 rfl rfl)
theorem dX7_party_75 : decode cX7_party 75 = .ok (.aload_n 0, 1) := dk_42 (dk_at dksX7_party_3 5 rfl rfl)
theorem dX7_party_76 : decode cX7_party 76 = .ok (.iload_n 1, 1) := dk_27 (dk_at dksX7_party_3 6 rfl rfl)
theorem dX7_party_77 : decode cX7_party 77 = .ok (.aload_n 0, 1) := dk_42 (dk_at dksX7_party_3 7 rfl rfl)
theorem dX7_party_78 : decode cX7_party 78 = .ok (.iload_n 1, 1) := dk_27 (dk_at dksX7_party_3 8 rfl rfl)
theorem dX7_party_79 : decode cX7_party 79 = .ok (.iconst 0, 1) := dk_3 (dk_at dksX7_party_3 9 rfl rfl)
theorem dX7_party_80 : decode cX7_party 80 = .ok (.invokevirtual 312, 3) := dk_182 1 56 (dk_at dksX7_party_3 10 rfl rfl)
theorem dX7_party_83 : decode cX7_party 83 = .ok (.invokevirtual 303, 3) := dk_182 1 47 (dk_at dksX7_party_3 13 rfl rfl)
theorem dX7_party_86 : decode cX7_party 86 = .ok (.ireturn, 1) := dk_172 (dk_at dksX7_party_3 16 rfl rfl)
theorem dX7_party_87 : decode cX7_party 87 = .ok (.iload_n 2, 1) := dk_28 (dk_at dksX7_party_3 17 rfl rfl)
theorem dX7_party_88 : decode cX7_party 88 = .ok (.iconst 4, 1) := dk_7 (dk_at dksX7_party_3 18 rfl rfl)
theorem dX7_party_89 : decode cX7_party 89 = .ok (.if_icmp .ne 15, 3) := dk_160 0 15 (dk_at dksX7_party_3 19 rfl rfl)
theorem dX7_party_92 : decode cX7_party 92 = .ok (.aload_n 0, 1) := dk_42 (dk_at dksX7_party_3 22 rfl rfl)
theorem dX7_party_93 : decode cX7_party 93 = .ok (.iload_n 1, 1) := dk_27 (dk_at dksX7_party_3 23 rfl rfl)
theorem dX7_party_94 : decode cX7_party 94 = .ok (.aload_n 0, 1) := dk_42 (dk_at dksX7_party_4 0 rfl rfl)
theorem dX7_party_95 : decode cX7_party 95 = .ok (.iload_n 1, 1) := dk_27 (dk_at dksX7_party_4 1 rfl rfl)
theorem dX7_party_96 : decode cX7_party 96 = .ok (.iconst 1, 1) := dk_4 (dk_at dksX7_party_4 2 rfl rfl)
theorem dX7_party_97 : decode cX7_party 97 = .ok (.invokevirtual 312, 3) := dk_182 1 56 (dk_at dksX7_party_4 3 rfl rfl)
theorem dX7_party_100 : decode cX7_party 100 = .ok (.invokevirtual 303, 3) := dk_182 1 47 (dk_at dksX7_party_4 6 rfl rfl)
theorem dX7_party_103 : decode cX7_party 103 = .ok (.ireturn, 1) := dk_172 (dk_at dksX7_party_4 9 rfl rfl)
theorem dX7_party_104 : decode cX7_party 104 = .ok (.iload_n 2, 1) := dk_28 (dk_at dksX7_party_4 10 rfl rfl)
theorem dX7_party_105 : decode cX7_party 105 = .ok (.iconst 5, 1) := dk_8 (dk_at dksX7_party_4 11 rfl rfl)
theorem dX7_party_106 : decode cX7_party 106 = .ok (.if_icmp .ne 12, 3) := dk_160 0 12 (dk_at dksX7_party_4 12 rfl rfl)
theorem dX7_party_109 : decode cX7_party 109 = .ok (.aload_n 0, 1) := dk_42 (dk_at dksX7_party_4 15 rfl rfl)
theorem dX7_party_110 : decode cX7_party 110 = .ok (.iload_n 1, 1) := dk_27 (dk_at dksX7_party_4 16 rfl rfl)
theorem dX7_party_111 : decode cX7_party 111 = .ok (.iconst 1, 1) := dk_4 (dk_at dksX7_party_4 17 rfl rfl)
theorem dX7_party_112 : decode cX7_party 112 = .ok (.invokevirtual 312, 3) := dk_182 1 56 (dk_at dksX7_party_4 18 rfl rfl)
theorem dX7_party_115 : decode cX7_party 115 = .ok (.goto 8, 3) := dk_167 0 8 (dk_at dksX7_party_4 21 rfl rfl)
theorem dX7_party_118 : decode cX7_party 118 = .ok (.aload_n 0, 1) := dk_42 (dk_at dksX7_party_5 0 rfl rfl)
theorem dX7_party_119 : decode cX7_party 119 = .ok (.iload_n 1, 1) := dk_27 (dk_at dksX7_party_5 1 rfl rfl)
theorem dX7_party_120 : decode cX7_party 120 = .ok (.invokevirtual 316, 3) := dk_182 1 60 (dk_at dksX7_party_5 2 rfl rfl)
theorem dX7_party_123 : decode cX7_party 123 = .ok (.ireturn, 1) := dk_172 (dk_at dksX7_party_5 5 rfl rfl)
abbrev cX7_isParty : ByteArray := prog_20_method_12_code
def yX7_isParty : MethodName := ⟨RX7, "isParty", "(I)Z"⟩
def dkwX7_isParty_0 : List UInt8 := [27, 3, 42, 180, 0, 7, 6, 46, 4, 100, 184, 0, 48, 172]
abbrev dktX7_isParty_0 : List UInt8 := dkwX7_isParty_0 ++ []
theorem dksX7_isParty_0 : cX7_isParty.data.toList.drop 0 = dktX7_isParty_0 := by decide +kernel
theorem dX7_isParty_0 : decode cX7_isParty 0 = .ok (.iload_n 1, 1) := dk_27 (dk_at dksX7_isParty_0 0 rfl rfl)
theorem dX7_isParty_1 : decode cX7_isParty 1 = .ok (.iconst 0, 1) := dk_3 (dk_at dksX7_isParty_0 1 rfl rfl)
theorem dX7_isParty_2 : decode cX7_isParty 2 = .ok (.aload_n 0, 1) := dk_42 (dk_at dksX7_isParty_0 2 rfl rfl)
theorem dX7_isParty_3 : decode cX7_isParty 3 = .ok (.getfield 7, 3) := dk_180 0 7 (dk_at dksX7_isParty_0 3 rfl rfl)
theorem dX7_isParty_6 : decode cX7_isParty 6 = .ok (.iconst 3, 1) := dk_6 (dk_at dksX7_isParty_0 6 rfl rfl)
theorem dX7_isParty_7 : decode cX7_isParty 7 = .ok (.iaload, 1) := dk_46 (dk_at dksX7_isParty_0 7 rfl rfl)
theorem dX7_isParty_8 : decode cX7_isParty 8 = .ok (.iconst 1, 1) := dk_4 (dk_at dksX7_isParty_0 8 rfl rfl)
theorem dX7_isParty_9 : decode cX7_isParty 9 = .ok (.isub, 1) := dk_100 (dk_at dksX7_isParty_0 9 rfl rfl)
theorem dX7_isParty_10 : decode cX7_isParty 10 = .ok (.invokestatic 48, 3) := dk_184 0 48 (dk_at dksX7_isParty_0 10 rfl rfl)
theorem dX7_isParty_13 : decode cX7_isParty 13 = .ok (.ireturn, 1) := dk_172 (dk_at dksX7_isParty_0 13 rfl rfl)
abbrev cX7_shareOf : ByteArray := prog_20_method_63_code
def yX7_shareOf : MethodName := ⟨RX7, "shareOf", "(I)I"⟩
def dkwX7_shareOf_2 : List UInt8 := [172]
abbrev dktX7_shareOf_2 : List UInt8 := dkwX7_shareOf_2 ++ []
def dkwX7_shareOf_1 : List UInt8 := [132, 3, 1, 167, 255, 235, 28, 154, 0, 7, 3, 167, 0, 13, 16, 100, 42, 27, 182, 1, 26, 104, 28, 108]
abbrev dktX7_shareOf_1 : List UInt8 := dkwX7_shareOf_1 ++ dktX7_shareOf_2
def dkwX7_shareOf_0 : List UInt8 := [3, 61, 3, 62, 29, 42, 180, 0, 7, 6, 46, 162, 0, 17, 28, 42, 29, 182, 1, 26, 96, 61]
abbrev dktX7_shareOf_0 : List UInt8 := dkwX7_shareOf_0 ++ dktX7_shareOf_1
theorem dksX7_shareOf_0 : cX7_shareOf.data.toList.drop 0 = dktX7_shareOf_0 := by decide +kernel
theorem dksX7_shareOf_1 : cX7_shareOf.data.toList.drop 22 = dktX7_shareOf_1 := dk_seg dksX7_shareOf_0 22 rfl rfl
theorem dksX7_shareOf_2 : cX7_shareOf.data.toList.drop 46 = dktX7_shareOf_2 := dk_seg dksX7_shareOf_1 24 rfl rfl
theorem dX7_shareOf_0 : decode cX7_shareOf 0 = .ok (.iconst 0, 1) := dk_3 (dk_at dksX7_shareOf_0 0 rfl rfl)
theorem dX7_shareOf_1 : decode cX7_shareOf 1 = .ok (.istore_n 2, 1) := dk_61 (dk_at dksX7_shareOf_0 1 rfl rfl)
theorem dX7_shareOf_2 : decode cX7_shareOf 2 = .ok (.iconst 0, 1) := dk_3 (dk_at dksX7_shareOf_0 2 rfl rfl)
theorem dX7_shareOf_3 : decode cX7_shareOf 3 = .ok (.istore_n 3, 1) := dk_62 (dk_at dksX7_shareOf_0 3 rfl rfl)
theorem dX7_shareOf_4 : decode cX7_shareOf 4 = .ok (.iload_n 3, 1) := dk_29 (dk_at dksX7_shareOf_0 4 rfl rfl)
theorem dX7_shareOf_5 : decode cX7_shareOf 5 = .ok (.aload_n 0, 1) := dk_42 (dk_at dksX7_shareOf_0 5 rfl rfl)
theorem dX7_shareOf_6 : decode cX7_shareOf 6 = .ok (.getfield 7, 3) := dk_180 0 7 (dk_at dksX7_shareOf_0 6 rfl rfl)
theorem dX7_shareOf_9 : decode cX7_shareOf 9 = .ok (.iconst 3, 1) := dk_6 (dk_at dksX7_shareOf_0 9 rfl rfl)
theorem dX7_shareOf_10 : decode cX7_shareOf 10 = .ok (.iaload, 1) := dk_46 (dk_at dksX7_shareOf_0 10 rfl rfl)
theorem dX7_shareOf_11 : decode cX7_shareOf 11 = .ok (.if_icmp .ge 17, 3) := dk_162 0 17 (dk_at dksX7_shareOf_0 11 rfl rfl)
theorem dX7_shareOf_14 : decode cX7_shareOf 14 = .ok (.iload_n 2, 1) := dk_28 (dk_at dksX7_shareOf_0 14 rfl rfl)
theorem dX7_shareOf_15 : decode cX7_shareOf 15 = .ok (.aload_n 0, 1) := dk_42 (dk_at dksX7_shareOf_0 15 rfl rfl)
theorem dX7_shareOf_16 : decode cX7_shareOf 16 = .ok (.iload_n 3, 1) := dk_29 (dk_at dksX7_shareOf_0 16 rfl rfl)
theorem dX7_shareOf_17 : decode cX7_shareOf 17 = .ok (.invokevirtual 282, 3) := dk_182 1 26 (dk_at dksX7_shareOf_0 17 rfl rfl)
theorem dX7_shareOf_20 : decode cX7_shareOf 20 = .ok (.iadd, 1) := dk_96 (dk_at dksX7_shareOf_0 20 rfl rfl)
theorem dX7_shareOf_21 : decode cX7_shareOf 21 = .ok (.istore_n 2, 1) := dk_61 (dk_at dksX7_shareOf_0 21 rfl rfl)
theorem dX7_shareOf_22 : decode cX7_shareOf 22 = .ok (.iinc 3 1, 3) := dk_132 3 1 (dk_at dksX7_shareOf_1 0 rfl rfl)
theorem dX7_shareOf_25 : decode cX7_shareOf 25 = .ok (.goto (-21), 3) := dk_167 255 235 (dk_at dksX7_shareOf_1 3 rfl rfl)
theorem dX7_shareOf_28 : decode cX7_shareOf 28 = .ok (.iload_n 2, 1) := dk_28 (dk_at dksX7_shareOf_1 6 rfl rfl)
theorem dX7_shareOf_29 : decode cX7_shareOf 29 = .ok (.ifCond .ne 7, 3) := dk_154 0 7 (dk_at dksX7_shareOf_1 7 rfl rfl)
theorem dX7_shareOf_32 : decode cX7_shareOf 32 = .ok (.iconst 0, 1) := dk_3 (dk_at dksX7_shareOf_1 10 rfl rfl)
theorem dX7_shareOf_33 : decode cX7_shareOf 33 = .ok (.goto 13, 3) := dk_167 0 13 (dk_at dksX7_shareOf_1 11 rfl rfl)
theorem dX7_shareOf_36 : decode cX7_shareOf 36 = .ok (.bipush 100, 2) := dk_16 100 (dk_at dksX7_shareOf_1 14 rfl rfl)
theorem dX7_shareOf_38 : decode cX7_shareOf 38 = .ok (.aload_n 0, 1) := dk_42 (dk_at dksX7_shareOf_1 16 rfl rfl)
theorem dX7_shareOf_39 : decode cX7_shareOf 39 = .ok (.iload_n 1, 1) := dk_27 (dk_at dksX7_shareOf_1 17 rfl rfl)
theorem dX7_shareOf_40 : decode cX7_shareOf 40 = .ok (.invokevirtual 282, 3) := dk_182 1 26 (dk_at dksX7_shareOf_1 18 rfl rfl)
theorem dX7_shareOf_43 : decode cX7_shareOf 43 = .ok (.imul, 1) := dk_104 (dk_at dksX7_shareOf_1 21 rfl rfl)
theorem dX7_shareOf_44 : decode cX7_shareOf 44 = .ok (.iload_n 2, 1) := dk_28 (dk_at dksX7_shareOf_1 22 rfl rfl)
theorem dX7_shareOf_45 : decode cX7_shareOf 45 = .ok (.idiv, 1) := dk_108 (dk_at dksX7_shareOf_1 23 rfl rfl)
theorem dX7_shareOf_46 : decode cX7_shareOf 46 = .ok (.ireturn, 1) := dk_172 (dk_at dksX7_shareOf_2 0 rfl rfl)
abbrev cX7_coins : ByteArray := prog_20_method_11_code
def yX7_coins : MethodName := ⟨RX7, "coins", "(I)I"⟩
def dkwX7_coins_0 : List UInt8 := [42, 180, 0, 7, 16, 15, 5, 27, 104, 96, 46, 172]
abbrev dktX7_coins_0 : List UInt8 := dkwX7_coins_0 ++ []
theorem dksX7_coins_0 : cX7_coins.data.toList.drop 0 = dktX7_coins_0 := by decide +kernel
theorem dX7_coins_0 : decode cX7_coins 0 = .ok (.aload_n 0, 1) := dk_42 (dk_at dksX7_coins_0 0 rfl rfl)
theorem dX7_coins_1 : decode cX7_coins 1 = .ok (.getfield 7, 3) := dk_180 0 7 (dk_at dksX7_coins_0 1 rfl rfl)
theorem dX7_coins_4 : decode cX7_coins 4 = .ok (.bipush 15, 2) := dk_16 15 (dk_at dksX7_coins_0 4 rfl rfl)
theorem dX7_coins_6 : decode cX7_coins 6 = .ok (.iconst 2, 1) := dk_5 (dk_at dksX7_coins_0 6 rfl rfl)
theorem dX7_coins_7 : decode cX7_coins 7 = .ok (.iload_n 1, 1) := dk_27 (dk_at dksX7_coins_0 7 rfl rfl)
theorem dX7_coins_8 : decode cX7_coins 8 = .ok (.imul, 1) := dk_104 (dk_at dksX7_coins_0 8 rfl rfl)
theorem dX7_coins_9 : decode cX7_coins 9 = .ok (.iadd, 1) := dk_96 (dk_at dksX7_coins_0 9 rfl rfl)
theorem dX7_coins_10 : decode cX7_coins 10 = .ok (.iaload, 1) := dk_46 (dk_at dksX7_coins_0 10 rfl rfl)
theorem dX7_coins_11 : decode cX7_coins 11 = .ok (.ireturn, 1) := dk_172 (dk_at dksX7_coins_0 11 rfl rfl)
abbrev cX7_readingOf : ByteArray := prog_20_method_61_code
def yX7_readingOf : MethodName := ⟨RX7, "readingOf", "(IZ)I"⟩
def dkwX7_readingOf_3 : List UInt8 := [162, 0, 6, 21, 4, 62, 132, 4, 1, 167, 255, 182, 29, 172]
abbrev dktX7_readingOf_3 : List UInt8 := dkwX7_readingOf_3 ++ []
def dkwX7_readingOf_2 : List UInt8 := [29, 182, 1, 47, 164, 0, 25, 167, 0, 19, 42, 27, 21, 4, 182, 1, 47, 42, 27, 29, 182, 1, 47]
abbrev dktX7_readingOf_2 : List UInt8 := dkwX7_readingOf_2 ++ dktX7_readingOf_3
def dkwX7_readingOf_1 : List UInt8 := [153, 0, 6, 167, 0, 50, 29, 2, 159, 0, 42, 28, 153, 0, 22, 42, 27, 21, 4, 182, 1, 47, 42, 27]
abbrev dktX7_readingOf_1 : List UInt8 := dkwX7_readingOf_1 ++ dktX7_readingOf_2
def dkwX7_readingOf_0 : List UInt8 := [2, 62, 3, 54, 4, 21, 4, 17, 1, 0, 162, 0, 72, 21, 4, 42, 3, 182, 0, 60, 2, 130, 126]
abbrev dktX7_readingOf_0 : List UInt8 := dkwX7_readingOf_0 ++ dktX7_readingOf_1
theorem dksX7_readingOf_0 : cX7_readingOf.data.toList.drop 0 = dktX7_readingOf_0 := by decide +kernel
theorem dksX7_readingOf_1 : cX7_readingOf.data.toList.drop 23 = dktX7_readingOf_1 := dk_seg dksX7_readingOf_0 23 rfl rfl
theorem dksX7_readingOf_2 : cX7_readingOf.data.toList.drop 47 = dktX7_readingOf_2 := dk_seg dksX7_readingOf_1 24 rfl rfl
theorem dksX7_readingOf_3 : cX7_readingOf.data.toList.drop 70 = dktX7_readingOf_3 := dk_seg dksX7_readingOf_2 23 rfl rfl
theorem dX7_readingOf_0 : decode cX7_readingOf 0 = .ok (.iconst (-1), 1) := dk_2 (dk_at dksX7_readingOf_0 0 rfl rfl)
theorem dX7_readingOf_1 : decode cX7_readingOf 1 = .ok (.istore_n 3, 1) := dk_62 (dk_at dksX7_readingOf_0 1 rfl rfl)
theorem dX7_readingOf_2 : decode cX7_readingOf 2 = .ok (.iconst 0, 1) := dk_3 (dk_at dksX7_readingOf_0 2 rfl rfl)
theorem dX7_readingOf_3 : decode cX7_readingOf 3 = .ok (.istore 4, 2) := dk_54 4 (dk_at dksX7_readingOf_0 3 rfl rfl)
theorem dX7_readingOf_5 : decode cX7_readingOf 5 = .ok (.iload 4, 2) := dk_21 4 (dk_at dksX7_readingOf_0 5 rfl rfl)
theorem dX7_readingOf_7 : decode cX7_readingOf 7 = .ok (.sipush 256, 3) := dk_17 1 0 (dk_at dksX7_readingOf_0 7 rfl rfl)
theorem dX7_readingOf_10 : decode cX7_readingOf 10 = .ok (.if_icmp .ge 72, 3) := dk_162 0 72 (dk_at dksX7_readingOf_0 10 rfl rfl)
theorem dX7_readingOf_13 : decode cX7_readingOf 13 = .ok (.iload 4, 2) := dk_21 4 (dk_at dksX7_readingOf_0 13 rfl rfl)
theorem dX7_readingOf_15 : decode cX7_readingOf 15 = .ok (.aload_n 0, 1) := dk_42 (dk_at dksX7_readingOf_0 15 rfl rfl)
theorem dX7_readingOf_16 : decode cX7_readingOf 16 = .ok (.iconst 0, 1) := dk_3 (dk_at dksX7_readingOf_0 16 rfl rfl)
theorem dX7_readingOf_17 : decode cX7_readingOf 17 = .ok (.invokevirtual 60, 3) := dk_182 0 60 (dk_at dksX7_readingOf_0 17 rfl rfl)
theorem dX7_readingOf_20 : decode cX7_readingOf 20 = .ok (.iconst (-1), 1) := dk_2 (dk_at dksX7_readingOf_0 20 rfl rfl)
theorem dX7_readingOf_21 : decode cX7_readingOf 21 = .ok (.ixor, 1) := dk_130 (dk_at dksX7_readingOf_0 21 rfl rfl)
theorem dX7_readingOf_22 : decode cX7_readingOf 22 = .ok (.iand, 1) := dk_126 (dk_at dksX7_readingOf_0 22 rfl rfl)
theorem dX7_readingOf_23 : decode cX7_readingOf 23 = .ok (.ifCond .eq 6, 3) := dk_153 0 6 (dk_at dksX7_readingOf_1 0 rfl rfl)
theorem dX7_readingOf_26 : decode cX7_readingOf 26 = .ok (.goto 50, 3) := dk_167 0 50 (dk_at dksX7_readingOf_1 3 rfl rfl)
theorem dX7_readingOf_29 : decode cX7_readingOf 29 = .ok (.iload_n 3, 1) := dk_29 (dk_at dksX7_readingOf_1 6 rfl rfl)
theorem dX7_readingOf_30 : decode cX7_readingOf 30 = .ok (.iconst (-1), 1) := dk_2 (dk_at dksX7_readingOf_1 7 rfl rfl)
theorem dX7_readingOf_31 : decode cX7_readingOf 31 = .ok (.if_icmp .eq 42, 3) := dk_159 0 42 (dk_at dksX7_readingOf_1 8 rfl rfl)
theorem dX7_readingOf_34 : decode cX7_readingOf 34 = .ok (.iload_n 2, 1) := dk_28 (dk_at dksX7_readingOf_1 11 rfl rfl)
theorem dX7_readingOf_35 : decode cX7_readingOf 35 = .ok (.ifCond .eq 22, 3) := dk_153 0 22 (dk_at dksX7_readingOf_1 12 rfl rfl)
theorem dX7_readingOf_38 : decode cX7_readingOf 38 = .ok (.aload_n 0, 1) := dk_42 (dk_at dksX7_readingOf_1 15 rfl rfl)
theorem dX7_readingOf_39 : decode cX7_readingOf 39 = .ok (.iload_n 1, 1) := dk_27 (dk_at dksX7_readingOf_1 16 rfl rfl)
theorem dX7_readingOf_40 : decode cX7_readingOf 40 = .ok (.iload 4, 2) := dk_21 4 (dk_at dksX7_readingOf_1 17 rfl rfl)
theorem dX7_readingOf_42 : decode cX7_readingOf 42 = .ok (.invokevirtual 303, 3) := dk_182 1 47 (dk_at dksX7_readingOf_1 19 rfl rfl)
theorem dX7_readingOf_45 : decode cX7_readingOf 45 = .ok (.aload_n 0, 1) := dk_42 (dk_at dksX7_readingOf_1 22 rfl rfl)
theorem dX7_readingOf_46 : decode cX7_readingOf 46 = .ok (.iload_n 1, 1) := dk_27 (dk_at dksX7_readingOf_1 23 rfl rfl)
theorem dX7_readingOf_47 : decode cX7_readingOf 47 = .ok (.iload_n 3, 1) := dk_29 (dk_at dksX7_readingOf_2 0 rfl rfl)
theorem dX7_readingOf_48 : decode cX7_readingOf 48 = .ok (.invokevirtual 303, 3) := dk_182 1 47 (dk_at dksX7_readingOf_2 1 rfl rfl)
theorem dX7_readingOf_51 : decode cX7_readingOf 51 = .ok (.if_icmp .le 25, 3) := dk_164 0 25 (dk_at dksX7_readingOf_2 4 rfl rfl)
theorem dX7_readingOf_54 : decode cX7_readingOf 54 = .ok (.goto 19, 3) := dk_167 0 19 (dk_at dksX7_readingOf_2 7 rfl rfl)
theorem dX7_readingOf_57 : decode cX7_readingOf 57 = .ok (.aload_n 0, 1) := dk_42 (dk_at dksX7_readingOf_2 10 rfl rfl)
theorem dX7_readingOf_58 : decode cX7_readingOf 58 = .ok (.iload_n 1, 1) := dk_27 (dk_at dksX7_readingOf_2 11 rfl rfl)
theorem dX7_readingOf_59 : decode cX7_readingOf 59 = .ok (.iload 4, 2) := dk_21 4 (dk_at dksX7_readingOf_2 12 rfl rfl)
theorem dX7_readingOf_61 : decode cX7_readingOf 61 = .ok (.invokevirtual 303, 3) := dk_182 1 47 (dk_at dksX7_readingOf_2 14 rfl rfl)
theorem dX7_readingOf_64 : decode cX7_readingOf 64 = .ok (.aload_n 0, 1) := dk_42 (dk_at dksX7_readingOf_2 17 rfl rfl)
theorem dX7_readingOf_65 : decode cX7_readingOf 65 = .ok (.iload_n 1, 1) := dk_27 (dk_at dksX7_readingOf_2 18 rfl rfl)
theorem dX7_readingOf_66 : decode cX7_readingOf 66 = .ok (.iload_n 3, 1) := dk_29 (dk_at dksX7_readingOf_2 19 rfl rfl)
theorem dX7_readingOf_67 : decode cX7_readingOf 67 = .ok (.invokevirtual 303, 3) := dk_182 1 47 (dk_at dksX7_readingOf_2 20 rfl rfl)
theorem dX7_readingOf_70 : decode cX7_readingOf 70 = .ok (.if_icmp .ge 6, 3) := dk_162 0 6 (dk_at dksX7_readingOf_3 0 rfl rfl)
theorem dX7_readingOf_73 : decode cX7_readingOf 73 = .ok (.iload 4, 2) := dk_21 4 (dk_at dksX7_readingOf_3 3 rfl rfl)
theorem dX7_readingOf_75 : decode cX7_readingOf 75 = .ok (.istore_n 3, 1) := dk_62 (dk_at dksX7_readingOf_3 5 rfl rfl)
theorem dX7_readingOf_76 : decode cX7_readingOf 76 = .ok (.iinc 4 1, 3) := dk_132 4 1 (dk_at dksX7_readingOf_3 6 rfl rfl)
theorem dX7_readingOf_79 : decode cX7_readingOf 79 = .ok (.goto (-74), 3) := dk_167 255 182 (dk_at dksX7_readingOf_3 9 rfl rfl)
theorem dX7_readingOf_82 : decode cX7_readingOf 82 = .ok (.iload_n 3, 1) := dk_29 (dk_at dksX7_readingOf_3 12 rfl rfl)
theorem dX7_readingOf_83 : decode cX7_readingOf 83 = .ok (.ireturn, 1) := dk_172 (dk_at dksX7_readingOf_3 13 rfl rfl)
abbrev cX7_inState : ByteArray := prog_20_method_15_code
def yX7_inState : MethodName := ⟨RX7, "inState", "(I)I"⟩
def dkwX7_inState_1 : List UInt8 := [160, 0, 9, 4, 29, 120, 167, 0, 4, 3, 128, 61, 132, 3, 1, 167, 255, 222, 28, 172]
abbrev dktX7_inState_1 : List UInt8 := dkwX7_inState_1 ++ []
def dkwX7_inState_0 : List UInt8 := [3, 61, 3, 62, 29, 42, 180, 0, 7, 8, 46, 162, 0, 30, 28, 42, 29, 16, 10, 182, 0, 52, 27]
abbrev dktX7_inState_0 : List UInt8 := dkwX7_inState_0 ++ dktX7_inState_1
theorem dksX7_inState_0 : cX7_inState.data.toList.drop 0 = dktX7_inState_0 := by decide +kernel
theorem dksX7_inState_1 : cX7_inState.data.toList.drop 23 = dktX7_inState_1 := dk_seg dksX7_inState_0 23 rfl rfl
theorem dX7_inState_0 : decode cX7_inState 0 = .ok (.iconst 0, 1) := dk_3 (dk_at dksX7_inState_0 0 rfl rfl)
theorem dX7_inState_1 : decode cX7_inState 1 = .ok (.istore_n 2, 1) := dk_61 (dk_at dksX7_inState_0 1 rfl rfl)
theorem dX7_inState_2 : decode cX7_inState 2 = .ok (.iconst 0, 1) := dk_3 (dk_at dksX7_inState_0 2 rfl rfl)
theorem dX7_inState_3 : decode cX7_inState 3 = .ok (.istore_n 3, 1) := dk_62 (dk_at dksX7_inState_0 3 rfl rfl)
theorem dX7_inState_4 : decode cX7_inState 4 = .ok (.iload_n 3, 1) := dk_29 (dk_at dksX7_inState_0 4 rfl rfl)
theorem dX7_inState_5 : decode cX7_inState 5 = .ok (.aload_n 0, 1) := dk_42 (dk_at dksX7_inState_0 5 rfl rfl)
theorem dX7_inState_6 : decode cX7_inState 6 = .ok (.getfield 7, 3) := dk_180 0 7 (dk_at dksX7_inState_0 6 rfl rfl)
theorem dX7_inState_9 : decode cX7_inState 9 = .ok (.iconst 5, 1) := dk_8 (dk_at dksX7_inState_0 9 rfl rfl)
theorem dX7_inState_10 : decode cX7_inState 10 = .ok (.iaload, 1) := dk_46 (dk_at dksX7_inState_0 10 rfl rfl)
theorem dX7_inState_11 : decode cX7_inState 11 = .ok (.if_icmp .ge 30, 3) := dk_162 0 30 (dk_at dksX7_inState_0 11 rfl rfl)
theorem dX7_inState_14 : decode cX7_inState 14 = .ok (.iload_n 2, 1) := dk_28 (dk_at dksX7_inState_0 14 rfl rfl)
theorem dX7_inState_15 : decode cX7_inState 15 = .ok (.aload_n 0, 1) := dk_42 (dk_at dksX7_inState_0 15 rfl rfl)
theorem dX7_inState_16 : decode cX7_inState 16 = .ok (.iload_n 3, 1) := dk_29 (dk_at dksX7_inState_0 16 rfl rfl)
theorem dX7_inState_17 : decode cX7_inState 17 = .ok (.bipush 10, 2) := dk_16 10 (dk_at dksX7_inState_0 17 rfl rfl)
theorem dX7_inState_19 : decode cX7_inState 19 = .ok (.invokevirtual 52, 3) := dk_182 0 52 (dk_at dksX7_inState_0 19 rfl rfl)
theorem dX7_inState_22 : decode cX7_inState 22 = .ok (.iload_n 1, 1) := dk_27 (dk_at dksX7_inState_0 22 rfl rfl)
theorem dX7_inState_23 : decode cX7_inState 23 = .ok (.if_icmp .ne 9, 3) := dk_160 0 9 (dk_at dksX7_inState_1 0 rfl rfl)
theorem dX7_inState_26 : decode cX7_inState 26 = .ok (.iconst 1, 1) := dk_4 (dk_at dksX7_inState_1 3 rfl rfl)
theorem dX7_inState_27 : decode cX7_inState 27 = .ok (.iload_n 3, 1) := dk_29 (dk_at dksX7_inState_1 4 rfl rfl)
theorem dX7_inState_28 : decode cX7_inState 28 = .ok (.ishl, 1) := dk_120 (dk_at dksX7_inState_1 5 rfl rfl)
theorem dX7_inState_29 : decode cX7_inState 29 = .ok (.goto 4, 3) := dk_167 0 4 (dk_at dksX7_inState_1 6 rfl rfl)
theorem dX7_inState_32 : decode cX7_inState 32 = .ok (.iconst 0, 1) := dk_3 (dk_at dksX7_inState_1 9 rfl rfl)
theorem dX7_inState_33 : decode cX7_inState 33 = .ok (.ior, 1) := dk_128 (dk_at dksX7_inState_1 10 rfl rfl)
theorem dX7_inState_34 : decode cX7_inState 34 = .ok (.istore_n 2, 1) := dk_61 (dk_at dksX7_inState_1 11 rfl rfl)
theorem dX7_inState_35 : decode cX7_inState 35 = .ok (.iinc 3 1, 3) := dk_132 3 1 (dk_at dksX7_inState_1 12 rfl rfl)
theorem dX7_inState_38 : decode cX7_inState 38 = .ok (.goto (-34), 3) := dk_167 255 222 (dk_at dksX7_inState_1 15 rfl rfl)
theorem dX7_inState_41 : decode cX7_inState 41 = .ok (.iload_n 2, 1) := dk_28 (dk_at dksX7_inState_1 18 rfl rfl)
theorem dX7_inState_42 : decode cX7_inState 42 = .ok (.ireturn, 1) := dk_172 (dk_at dksX7_inState_1 19 rfl rfl)
abbrev cX7_of : ByteArray := prog_20_method_8_code
def yX7_of : MethodName := ⟨RX7, "of", "(II)I"⟩
def dkwX7_of_0 : List UInt8 := [42, 180, 0, 7, 16, 45, 16, 12, 27, 104, 96, 28, 96, 46, 172]
abbrev dktX7_of_0 : List UInt8 := dkwX7_of_0 ++ []
theorem dksX7_of_0 : cX7_of.data.toList.drop 0 = dktX7_of_0 := by decide +kernel
theorem dX7_of_0 : decode cX7_of 0 = .ok (.aload_n 0, 1) := dk_42 (dk_at dksX7_of_0 0 rfl rfl)
theorem dX7_of_1 : decode cX7_of 1 = .ok (.getfield 7, 3) := dk_180 0 7 (dk_at dksX7_of_0 1 rfl rfl)
theorem dX7_of_4 : decode cX7_of 4 = .ok (.bipush 45, 2) := dk_16 45 (dk_at dksX7_of_0 4 rfl rfl)
theorem dX7_of_6 : decode cX7_of 6 = .ok (.bipush 12, 2) := dk_16 12 (dk_at dksX7_of_0 6 rfl rfl)
theorem dX7_of_8 : decode cX7_of 8 = .ok (.iload_n 1, 1) := dk_27 (dk_at dksX7_of_0 8 rfl rfl)
theorem dX7_of_9 : decode cX7_of 9 = .ok (.imul, 1) := dk_104 (dk_at dksX7_of_0 9 rfl rfl)
theorem dX7_of_10 : decode cX7_of 10 = .ok (.iadd, 1) := dk_96 (dk_at dksX7_of_0 10 rfl rfl)
theorem dX7_of_11 : decode cX7_of 11 = .ok (.iload_n 2, 1) := dk_28 (dk_at dksX7_of_0 11 rfl rfl)
theorem dX7_of_12 : decode cX7_of 12 = .ok (.iadd, 1) := dk_96 (dk_at dksX7_of_0 12 rfl rfl)
theorem dX7_of_13 : decode cX7_of 13 = .ok (.iaload, 1) := dk_46 (dk_at dksX7_of_0 13 rfl rfl)
theorem dX7_of_14 : decode cX7_of 14 = .ok (.ireturn, 1) := dk_172 (dk_at dksX7_of_0 14 rfl rfl)
abbrev cX7_netOf : ByteArray := prog_20_method_60_code
def yX7_netOf : MethodName := ⟨RX7, "netOf", "(II)I"⟩
def dkwX7_netOf_4 : List UInt8 := [182, 0, 52, 116, 167, 0, 4, 3, 96, 54, 4, 132, 5, 1, 167, 255, 168, 21, 4, 172]
abbrev dktX7_netOf_4 : List UInt8 := dkwX7_netOf_4 ++ []
def dkwX7_netOf_3 : List UInt8 := [21, 5, 6, 182, 0, 52, 167, 0, 26, 42, 21, 5, 4, 182, 0, 52, 27, 160, 0, 14, 42, 21, 5, 6]
abbrev dktX7_netOf_3 : List UInt8 := dkwX7_netOf_3 ++ dktX7_netOf_4
def dkwX7_netOf_2 : List UInt8 := [182, 0, 64, 154, 0, 6, 167, 0, 52, 21, 4, 42, 21, 5, 5, 182, 0, 52, 27, 160, 0, 13, 42]
abbrev dktX7_netOf_2 : List UInt8 := dkwX7_netOf_2 ++ dktX7_netOf_3
def dkwX7_netOf_1 : List UInt8 := [180, 0, 7, 8, 46, 162, 0, 83, 42, 21, 5, 16, 11, 182, 0, 52, 4, 159, 0, 65, 42, 21, 5, 29]
abbrev dktX7_netOf_1 : List UInt8 := dkwX7_netOf_1 ++ dktX7_netOf_2
def dkwX7_netOf_0 : List UInt8 := [42, 4, 182, 0, 60, 28, 42, 3, 182, 0, 60, 126, 128, 62, 3, 54, 4, 3, 54, 5, 21, 5, 42]
abbrev dktX7_netOf_0 : List UInt8 := dkwX7_netOf_0 ++ dktX7_netOf_1
theorem dksX7_netOf_0 : cX7_netOf.data.toList.drop 0 = dktX7_netOf_0 := by decide +kernel
theorem dksX7_netOf_1 : cX7_netOf.data.toList.drop 23 = dktX7_netOf_1 := dk_seg dksX7_netOf_0 23 rfl rfl
theorem dksX7_netOf_2 : cX7_netOf.data.toList.drop 47 = dktX7_netOf_2 := dk_seg dksX7_netOf_1 24 rfl rfl
theorem dksX7_netOf_3 : cX7_netOf.data.toList.drop 70 = dktX7_netOf_3 := dk_seg dksX7_netOf_2 23 rfl rfl
theorem dksX7_netOf_4 : cX7_netOf.data.toList.drop 94 = dktX7_netOf_4 := dk_seg dksX7_netOf_3 24 rfl rfl
theorem dX7_netOf_0 : decode cX7_netOf 0 = .ok (.aload_n 0, 1) := dk_42 (dk_at dksX7_netOf_0 0 rfl rfl)
theorem dX7_netOf_1 : decode cX7_netOf 1 = .ok (.iconst 1, 1) := dk_4 (dk_at dksX7_netOf_0 1 rfl rfl)
theorem dX7_netOf_2 : decode cX7_netOf 2 = .ok (.invokevirtual 60, 3) := dk_182 0 60 (dk_at dksX7_netOf_0 2 rfl rfl)
theorem dX7_netOf_5 : decode cX7_netOf 5 = .ok (.iload_n 2, 1) := dk_28 (dk_at dksX7_netOf_0 5 rfl rfl)
theorem dX7_netOf_6 : decode cX7_netOf 6 = .ok (.aload_n 0, 1) := dk_42 (dk_at dksX7_netOf_0 6 rfl rfl)
theorem dX7_netOf_7 : decode cX7_netOf 7 = .ok (.iconst 0, 1) := dk_3 (dk_at dksX7_netOf_0 7 rfl rfl)
theorem dX7_netOf_8 : decode cX7_netOf 8 = .ok (.invokevirtual 60, 3) := dk_182 0 60 (dk_at dksX7_netOf_0 8 rfl rfl)
theorem dX7_netOf_11 : decode cX7_netOf 11 = .ok (.iand, 1) := dk_126 (dk_at dksX7_netOf_0 11 rfl rfl)
theorem dX7_netOf_12 : decode cX7_netOf 12 = .ok (.ior, 1) := dk_128 (dk_at dksX7_netOf_0 12 rfl rfl)
theorem dX7_netOf_13 : decode cX7_netOf 13 = .ok (.istore_n 3, 1) := dk_62 (dk_at dksX7_netOf_0 13 rfl rfl)
theorem dX7_netOf_14 : decode cX7_netOf 14 = .ok (.iconst 0, 1) := dk_3 (dk_at dksX7_netOf_0 14 rfl rfl)
theorem dX7_netOf_15 : decode cX7_netOf 15 = .ok (.istore 4, 2) := dk_54 4 (dk_at dksX7_netOf_0 15 rfl rfl)
theorem dX7_netOf_17 : decode cX7_netOf 17 = .ok (.iconst 0, 1) := dk_3 (dk_at dksX7_netOf_0 17 rfl rfl)
theorem dX7_netOf_18 : decode cX7_netOf 18 = .ok (.istore 5, 2) := dk_54 5 (dk_at dksX7_netOf_0 18 rfl rfl)
theorem dX7_netOf_20 : decode cX7_netOf 20 = .ok (.iload 5, 2) := dk_21 5 (dk_at dksX7_netOf_0 20 rfl rfl)
theorem dX7_netOf_22 : decode cX7_netOf 22 = .ok (.aload_n 0, 1) := dk_42 (dk_at dksX7_netOf_0 22 rfl rfl)
theorem dX7_netOf_23 : decode cX7_netOf 23 = .ok (.getfield 7, 3) := dk_180 0 7 (dk_at dksX7_netOf_1 0 rfl rfl)
theorem dX7_netOf_26 : decode cX7_netOf 26 = .ok (.iconst 5, 1) := dk_8 (dk_at dksX7_netOf_1 3 rfl rfl)
theorem dX7_netOf_27 : decode cX7_netOf 27 = .ok (.iaload, 1) := dk_46 (dk_at dksX7_netOf_1 4 rfl rfl)
theorem dX7_netOf_28 : decode cX7_netOf 28 = .ok (.if_icmp .ge 83, 3) := dk_162 0 83 (dk_at dksX7_netOf_1 5 rfl rfl)
theorem dX7_netOf_31 : decode cX7_netOf 31 = .ok (.aload_n 0, 1) := dk_42 (dk_at dksX7_netOf_1 8 rfl rfl)
theorem dX7_netOf_32 : decode cX7_netOf 32 = .ok (.iload 5, 2) := dk_21 5 (dk_at dksX7_netOf_1 9 rfl rfl)
theorem dX7_netOf_34 : decode cX7_netOf 34 = .ok (.bipush 11, 2) := dk_16 11 (dk_at dksX7_netOf_1 11 rfl rfl)
theorem dX7_netOf_36 : decode cX7_netOf 36 = .ok (.invokevirtual 52, 3) := dk_182 0 52 (dk_at dksX7_netOf_1 13 rfl rfl)
theorem dX7_netOf_39 : decode cX7_netOf 39 = .ok (.iconst 1, 1) := dk_4 (dk_at dksX7_netOf_1 16 rfl rfl)
theorem dX7_netOf_40 : decode cX7_netOf 40 = .ok (.if_icmp .eq 65, 3) := dk_159 0 65 (dk_at dksX7_netOf_1 17 rfl rfl)
theorem dX7_netOf_43 : decode cX7_netOf 43 = .ok (.aload_n 0, 1) := dk_42 (dk_at dksX7_netOf_1 20 rfl rfl)
theorem dX7_netOf_44 : decode cX7_netOf 44 = .ok (.iload 5, 2) := dk_21 5 (dk_at dksX7_netOf_1 21 rfl rfl)
theorem dX7_netOf_46 : decode cX7_netOf 46 = .ok (.iload_n 3, 1) := dk_29 (dk_at dksX7_netOf_1 23 rfl rfl)
theorem dX7_netOf_47 : decode cX7_netOf 47 = .ok (.invokevirtual 64, 3) := dk_182 0 64 (dk_at dksX7_netOf_2 0 rfl rfl)
theorem dX7_netOf_50 : decode cX7_netOf 50 = .ok (.ifCond .ne 6, 3) := dk_154 0 6 (dk_at dksX7_netOf_2 3 rfl rfl)
theorem dX7_netOf_53 : decode cX7_netOf 53 = .ok (.goto 52, 3) := dk_167 0 52 (dk_at dksX7_netOf_2 6 rfl rfl)
theorem dX7_netOf_56 : decode cX7_netOf 56 = .ok (.iload 4, 2) := dk_21 4 (dk_at dksX7_netOf_2 9 rfl rfl)
theorem dX7_netOf_58 : decode cX7_netOf 58 = .ok (.aload_n 0, 1) := dk_42 (dk_at dksX7_netOf_2 11 rfl rfl)
theorem dX7_netOf_59 : decode cX7_netOf 59 = .ok (.iload 5, 2) := dk_21 5 (dk_at dksX7_netOf_2 12 rfl rfl)
theorem dX7_netOf_61 : decode cX7_netOf 61 = .ok (.iconst 2, 1) := dk_5 (dk_at dksX7_netOf_2 14 rfl rfl)
theorem dX7_netOf_62 : decode cX7_netOf 62 = .ok (.invokevirtual 52, 3) := dk_182 0 52 (dk_at dksX7_netOf_2 15 rfl rfl)
theorem dX7_netOf_65 : decode cX7_netOf 65 = .ok (.iload_n 1, 1) := dk_27 (dk_at dksX7_netOf_2 18 rfl rfl)
theorem dX7_netOf_66 : decode cX7_netOf 66 = .ok (.if_icmp .ne 13, 3) := dk_160 0 13 (dk_at dksX7_netOf_2 19 rfl rfl)
theorem dX7_netOf_69 : decode cX7_netOf 69 = .ok (.aload_n 0, 1) := dk_42 (dk_at dksX7_netOf_2 22 rfl rfl)
theorem dX7_netOf_70 : decode cX7_netOf 70 = .ok (.iload 5, 2) := dk_21 5 (dk_at dksX7_netOf_3 0 rfl rfl)
theorem dX7_netOf_72 : decode cX7_netOf 72 = .ok (.iconst 3, 1) := dk_6 (dk_at dksX7_netOf_3 2 rfl rfl)
theorem dX7_netOf_73 : decode cX7_netOf 73 = .ok (.invokevirtual 52, 3) := dk_182 0 52 (dk_at dksX7_netOf_3 3 rfl rfl)
theorem dX7_netOf_76 : decode cX7_netOf 76 = .ok (.goto 26, 3) := dk_167 0 26 (dk_at dksX7_netOf_3 6 rfl rfl)
theorem dX7_netOf_79 : decode cX7_netOf 79 = .ok (.aload_n 0, 1) := dk_42 (dk_at dksX7_netOf_3 9 rfl rfl)
theorem dX7_netOf_80 : decode cX7_netOf 80 = .ok (.iload 5, 2) := dk_21 5 (dk_at dksX7_netOf_3 10 rfl rfl)
theorem dX7_netOf_82 : decode cX7_netOf 82 = .ok (.iconst 1, 1) := dk_4 (dk_at dksX7_netOf_3 12 rfl rfl)
theorem dX7_netOf_83 : decode cX7_netOf 83 = .ok (.invokevirtual 52, 3) := dk_182 0 52 (dk_at dksX7_netOf_3 13 rfl rfl)
theorem dX7_netOf_86 : decode cX7_netOf 86 = .ok (.iload_n 1, 1) := dk_27 (dk_at dksX7_netOf_3 16 rfl rfl)
theorem dX7_netOf_87 : decode cX7_netOf 87 = .ok (.if_icmp .ne 14, 3) := dk_160 0 14 (dk_at dksX7_netOf_3 17 rfl rfl)
theorem dX7_netOf_90 : decode cX7_netOf 90 = .ok (.aload_n 0, 1) := dk_42 (dk_at dksX7_netOf_3 20 rfl rfl)
theorem dX7_netOf_91 : decode cX7_netOf 91 = .ok (.iload 5, 2) := dk_21 5 (dk_at dksX7_netOf_3 21 rfl rfl)
theorem dX7_netOf_93 : decode cX7_netOf 93 = .ok (.iconst 3, 1) := dk_6 (dk_at dksX7_netOf_3 23 rfl rfl)
theorem dX7_netOf_94 : decode cX7_netOf 94 = .ok (.invokevirtual 52, 3) := dk_182 0 52 (dk_at dksX7_netOf_4 0 rfl rfl)
theorem dX7_netOf_97 : decode cX7_netOf 97 = .ok (.ineg, 1) := dk_116 (dk_at dksX7_netOf_4 3 rfl rfl)
theorem dX7_netOf_98 : decode cX7_netOf 98 = .ok (.goto 4, 3) := dk_167 0 4 (dk_at dksX7_netOf_4 4 rfl rfl)
theorem dX7_netOf_101 : decode cX7_netOf 101 = .ok (.iconst 0, 1) := dk_3 (dk_at dksX7_netOf_4 7 rfl rfl)
theorem dX7_netOf_102 : decode cX7_netOf 102 = .ok (.iadd, 1) := dk_96 (dk_at dksX7_netOf_4 8 rfl rfl)
theorem dX7_netOf_103 : decode cX7_netOf 103 = .ok (.istore 4, 2) := dk_54 4 (dk_at dksX7_netOf_4 9 rfl rfl)
theorem dX7_netOf_105 : decode cX7_netOf 105 = .ok (.iinc 5 1, 3) := dk_132 5 1 (dk_at dksX7_netOf_4 11 rfl rfl)
theorem dX7_netOf_108 : decode cX7_netOf 108 = .ok (.goto (-88), 3) := dk_167 255 168 (dk_at dksX7_netOf_4 14 rfl rfl)
theorem dX7_netOf_111 : decode cX7_netOf 111 = .ok (.iload 4, 2) := dk_21 4 (dk_at dksX7_netOf_4 17 rfl rfl)
theorem dX7_netOf_113 : decode cX7_netOf 113 = .ok (.ireturn, 1) := dk_172 (dk_at dksX7_netOf_4 19 rfl rfl)
abbrev cX7_isValid : ByteArray := prog_20_method_16_code
def yX7_isValid : MethodName := ⟨RX7, "isValid", "(II)Z"⟩
def dkwX7_isValid_3 : List UInt8 := [167, 0, 4, 3, 172]
abbrev dktX7_isValid_3 : List UInt8 := dkwX7_isValid_3 ++ []
def dkwX7_isValid_2 : List UInt8 := [182, 0, 52, 2, 159, 0, 17, 28, 42, 27, 16, 6, 182, 0, 52, 184, 0, 56, 154, 0, 7, 4]
abbrev dktX7_isValid_2 : List UInt8 := dkwX7_isValid_2 ++ dktX7_isValid_3
def dkwX7_isValid_1 : List UInt8 := [182, 0, 52, 184, 0, 56, 153, 0, 7, 4, 167, 0, 4, 3, 62, 29, 153, 0, 32, 42, 27, 16, 6]
abbrev dktX7_isValid_1 : List UInt8 := dkwX7_isValid_1 ++ dktX7_isValid_2
def dkwX7_isValid_0 : List UInt8 := [28, 27, 184, 0, 56, 154, 0, 5, 3, 172, 42, 27, 8, 182, 0, 52, 2, 159, 0, 16, 28, 42, 27, 8]
abbrev dktX7_isValid_0 : List UInt8 := dkwX7_isValid_0 ++ dktX7_isValid_1
theorem dksX7_isValid_0 : cX7_isValid.data.toList.drop 0 = dktX7_isValid_0 := by decide +kernel
theorem dksX7_isValid_1 : cX7_isValid.data.toList.drop 24 = dktX7_isValid_1 := dk_seg dksX7_isValid_0 24 rfl rfl
theorem dksX7_isValid_2 : cX7_isValid.data.toList.drop 47 = dktX7_isValid_2 := dk_seg dksX7_isValid_1 23 rfl rfl
theorem dksX7_isValid_3 : cX7_isValid.data.toList.drop 69 = dktX7_isValid_3 := dk_seg dksX7_isValid_2 22 rfl rfl
theorem dX7_isValid_0 : decode cX7_isValid 0 = .ok (.iload_n 2, 1) := dk_28 (dk_at dksX7_isValid_0 0 rfl rfl)
theorem dX7_isValid_1 : decode cX7_isValid 1 = .ok (.iload_n 1, 1) := dk_27 (dk_at dksX7_isValid_0 1 rfl rfl)
theorem dX7_isValid_2 : decode cX7_isValid 2 = .ok (.invokestatic 56, 3) := dk_184 0 56 (dk_at dksX7_isValid_0 2 rfl rfl)
theorem dX7_isValid_5 : decode cX7_isValid 5 = .ok (.ifCond .ne 5, 3) := dk_154 0 5 (dk_at dksX7_isValid_0 5 rfl rfl)
theorem dX7_isValid_8 : decode cX7_isValid 8 = .ok (.iconst 0, 1) := dk_3 (dk_at dksX7_isValid_0 8 rfl rfl)
theorem dX7_isValid_9 : decode cX7_isValid 9 = .ok (.ireturn, 1) := dk_172 (dk_at dksX7_isValid_0 9 rfl rfl)
theorem dX7_isValid_10 : decode cX7_isValid 10 = .ok (.aload_n 0, 1) := dk_42 (dk_at dksX7_isValid_0 10 rfl rfl)
theorem dX7_isValid_11 : decode cX7_isValid 11 = .ok (.iload_n 1, 1) := dk_27 (dk_at dksX7_isValid_0 11 rfl rfl)
theorem dX7_isValid_12 : decode cX7_isValid 12 = .ok (.iconst 5, 1) := dk_8 (dk_at dksX7_isValid_0 12 rfl rfl)
theorem dX7_isValid_13 : decode cX7_isValid 13 = .ok (.invokevirtual 52, 3) := dk_182 0 52 (dk_at dksX7_isValid_0 13 rfl rfl)
theorem dX7_isValid_16 : decode cX7_isValid 16 = .ok (.iconst (-1), 1) := dk_2 (dk_at dksX7_isValid_0 16 rfl rfl)
theorem dX7_isValid_17 : decode cX7_isValid 17 = .ok (.if_icmp .eq 16, 3) := dk_159 0 16 (dk_at dksX7_isValid_0 17 rfl rfl)
theorem dX7_isValid_20 : decode cX7_isValid 20 = .ok (.iload_n 2, 1) := dk_28 (dk_at dksX7_isValid_0 20 rfl rfl)
theorem dX7_isValid_21 : decode cX7_isValid 21 = .ok (.aload_n 0, 1) := dk_42 (dk_at dksX7_isValid_0 21 rfl rfl)
theorem dX7_isValid_22 : decode cX7_isValid 22 = .ok (.iload_n 1, 1) := dk_27 (dk_at dksX7_isValid_0 22 rfl rfl)
theorem dX7_isValid_23 : decode cX7_isValid 23 = .ok (.iconst 5, 1) := dk_8 (dk_at dksX7_isValid_0 23 rfl rfl)
theorem dX7_isValid_24 : decode cX7_isValid 24 = .ok (.invokevirtual 52, 3) := dk_182 0 52 (dk_at dksX7_isValid_1 0 rfl rfl)
theorem dX7_isValid_27 : decode cX7_isValid 27 = .ok (.invokestatic 56, 3) := dk_184 0 56 (dk_at dksX7_isValid_1 3 rfl rfl)
theorem dX7_isValid_30 : decode cX7_isValid 30 = .ok (.ifCond .eq 7, 3) := dk_153 0 7 (dk_at dksX7_isValid_1 6 rfl rfl)
theorem dX7_isValid_33 : decode cX7_isValid 33 = .ok (.iconst 1, 1) := dk_4 (dk_at dksX7_isValid_1 9 rfl rfl)
theorem dX7_isValid_34 : decode cX7_isValid 34 = .ok (.goto 4, 3) := dk_167 0 4 (dk_at dksX7_isValid_1 10 rfl rfl)
theorem dX7_isValid_37 : decode cX7_isValid 37 = .ok (.iconst 0, 1) := dk_3 (dk_at dksX7_isValid_1 13 rfl rfl)
theorem dX7_isValid_38 : decode cX7_isValid 38 = .ok (.istore_n 3, 1) := dk_62 (dk_at dksX7_isValid_1 14 rfl rfl)
theorem dX7_isValid_39 : decode cX7_isValid 39 = .ok (.iload_n 3, 1) := dk_29 (dk_at dksX7_isValid_1 15 rfl rfl)
theorem dX7_isValid_40 : decode cX7_isValid 40 = .ok (.ifCond .eq 32, 3) := dk_153 0 32 (dk_at dksX7_isValid_1 16 rfl rfl)
theorem dX7_isValid_43 : decode cX7_isValid 43 = .ok (.aload_n 0, 1) := dk_42 (dk_at dksX7_isValid_1 19 rfl rfl)
theorem dX7_isValid_44 : decode cX7_isValid 44 = .ok (.iload_n 1, 1) := dk_27 (dk_at dksX7_isValid_1 20 rfl rfl)
theorem dX7_isValid_45 : decode cX7_isValid 45 = .ok (.bipush 6, 2) := dk_16 6 (dk_at dksX7_isValid_1 21 rfl rfl)
theorem dX7_isValid_47 : decode cX7_isValid 47 = .ok (.invokevirtual 52, 3) := dk_182 0 52 (dk_at dksX7_isValid_2 0 rfl rfl)
theorem dX7_isValid_50 : decode cX7_isValid 50 = .ok (.iconst (-1), 1) := dk_2 (dk_at dksX7_isValid_2 3 rfl rfl)
theorem dX7_isValid_51 : decode cX7_isValid 51 = .ok (.if_icmp .eq 17, 3) := dk_159 0 17 (dk_at dksX7_isValid_2 4 rfl rfl)
theorem dX7_isValid_54 : decode cX7_isValid 54 = .ok (.iload_n 2, 1) := dk_28 (dk_at dksX7_isValid_2 7 rfl rfl)
theorem dX7_isValid_55 : decode cX7_isValid 55 = .ok (.aload_n 0, 1) := dk_42 (dk_at dksX7_isValid_2 8 rfl rfl)
theorem dX7_isValid_56 : decode cX7_isValid 56 = .ok (.iload_n 1, 1) := dk_27 (dk_at dksX7_isValid_2 9 rfl rfl)
theorem dX7_isValid_57 : decode cX7_isValid 57 = .ok (.bipush 6, 2) := dk_16 6 (dk_at dksX7_isValid_2 10 rfl rfl)
theorem dX7_isValid_59 : decode cX7_isValid 59 = .ok (.invokevirtual 52, 3) := dk_182 0 52 (dk_at dksX7_isValid_2 12 rfl rfl)
theorem dX7_isValid_62 : decode cX7_isValid 62 = .ok (.invokestatic 56, 3) := dk_184 0 56 (dk_at dksX7_isValid_2 15 rfl rfl)
theorem dX7_isValid_65 : decode cX7_isValid 65 = .ok (.ifCond .ne 7, 3) := dk_154 0 7 (dk_at dksX7_isValid_2 18 rfl rfl)
theorem dX7_isValid_68 : decode cX7_isValid 68 = .ok (.iconst 1, 1) := dk_4 (dk_at dksX7_isValid_2 21 rfl rfl)
theorem dX7_isValid_69 : decode cX7_isValid 69 = .ok (.goto 4, 3) := dk_167 0 4 (dk_at dksX7_isValid_3 0 rfl rfl)
theorem dX7_isValid_72 : decode cX7_isValid 72 = .ok (.iconst 0, 1) := dk_3 (dk_at dksX7_isValid_3 3 rfl rfl)
theorem dX7_isValid_73 : decode cX7_isValid 73 = .ok (.ireturn, 1) := dk_172 (dk_at dksX7_isValid_3 4 rfl rfl)
abbrev cX7_isOf : ByteArray := prog_20_method_6_code
def yX7_isOf : MethodName := ⟨RX7, "isOf", "(II)Z"⟩
def dkwX7_isOf_0 : List UInt8 := [26, 27, 122, 4, 126, 4, 160, 0, 7, 4, 167, 0, 4, 3, 172]
abbrev dktX7_isOf_0 : List UInt8 := dkwX7_isOf_0 ++ []
theorem dksX7_isOf_0 : cX7_isOf.data.toList.drop 0 = dktX7_isOf_0 := by decide +kernel
theorem dX7_isOf_0 : decode cX7_isOf 0 = .ok (.iload_n 0, 1) := dk_26 (dk_at dksX7_isOf_0 0 rfl rfl)
theorem dX7_isOf_1 : decode cX7_isOf 1 = .ok (.iload_n 1, 1) := dk_27 (dk_at dksX7_isOf_0 1 rfl rfl)
theorem dX7_isOf_2 : decode cX7_isOf 2 = .ok (.ishr, 1) := dk_122 (dk_at dksX7_isOf_0 2 rfl rfl)
theorem dX7_isOf_3 : decode cX7_isOf 3 = .ok (.iconst 1, 1) := dk_4 (dk_at dksX7_isOf_0 3 rfl rfl)
theorem dX7_isOf_4 : decode cX7_isOf 4 = .ok (.iand, 1) := dk_126 (dk_at dksX7_isOf_0 4 rfl rfl)
theorem dX7_isOf_5 : decode cX7_isOf 5 = .ok (.iconst 1, 1) := dk_4 (dk_at dksX7_isOf_0 5 rfl rfl)
theorem dX7_isOf_6 : decode cX7_isOf 6 = .ok (.if_icmp .ne 7, 3) := dk_160 0 7 (dk_at dksX7_isOf_0 6 rfl rfl)
theorem dX7_isOf_9 : decode cX7_isOf 9 = .ok (.iconst 1, 1) := dk_4 (dk_at dksX7_isOf_0 9 rfl rfl)
theorem dX7_isOf_10 : decode cX7_isOf 10 = .ok (.goto 4, 3) := dk_167 0 4 (dk_at dksX7_isOf_0 10 rfl rfl)
theorem dX7_isOf_13 : decode cX7_isOf 13 = .ok (.iconst 0, 1) := dk_3 (dk_at dksX7_isOf_0 13 rfl rfl)
theorem dX7_isOf_14 : decode cX7_isOf 14 = .ok (.ireturn, 1) := dk_172 (dk_at dksX7_isOf_0 14 rfl rfl)
abbrev cX7_fortuneOf : ByteArray := prog_20_method_62_code
def yX7_fortuneOf : MethodName := ⟨RX7, "fortuneOf", "(I)I"⟩
def dkwX7_fortuneOf_2 : List UInt8 := [167, 255, 216, 28, 29, 108, 172]
abbrev dktX7_fortuneOf_2 : List UInt8 := dkwX7_fortuneOf_2 ++ []
def dkwX7_fortuneOf_1 : List UInt8 := [126, 153, 0, 6, 167, 0, 16, 28, 42, 27, 21, 4, 182, 1, 47, 96, 61, 132, 3, 1, 132, 4, 1]
abbrev dktX7_fortuneOf_1 : List UInt8 := dkwX7_fortuneOf_1 ++ dktX7_fortuneOf_2
def dkwX7_fortuneOf_0 : List UInt8 := [3, 61, 3, 62, 3, 54, 4, 21, 4, 17, 1, 0, 162, 0, 38, 21, 4, 42, 3, 182, 0, 60, 2, 130]
abbrev dktX7_fortuneOf_0 : List UInt8 := dkwX7_fortuneOf_0 ++ dktX7_fortuneOf_1
theorem dksX7_fortuneOf_0 : cX7_fortuneOf.data.toList.drop 0 = dktX7_fortuneOf_0 := by decide +kernel
theorem dksX7_fortuneOf_1 : cX7_fortuneOf.data.toList.drop 24 = dktX7_fortuneOf_1 := dk_seg dksX7_fortuneOf_0 24 rfl rfl
theorem dksX7_fortuneOf_2 : cX7_fortuneOf.data.toList.drop 47 = dktX7_fortuneOf_2 := dk_seg dksX7_fortuneOf_1 23 rfl rfl
theorem dX7_fortuneOf_0 : decode cX7_fortuneOf 0 = .ok (.iconst 0, 1) := dk_3 (dk_at dksX7_fortuneOf_0 0 rfl rfl)
theorem dX7_fortuneOf_1 : decode cX7_fortuneOf 1 = .ok (.istore_n 2, 1) := dk_61 (dk_at dksX7_fortuneOf_0 1 rfl rfl)
theorem dX7_fortuneOf_2 : decode cX7_fortuneOf 2 = .ok (.iconst 0, 1) := dk_3 (dk_at dksX7_fortuneOf_0 2 rfl rfl)
theorem dX7_fortuneOf_3 : decode cX7_fortuneOf 3 = .ok (.istore_n 3, 1) := dk_62 (dk_at dksX7_fortuneOf_0 3 rfl rfl)
theorem dX7_fortuneOf_4 : decode cX7_fortuneOf 4 = .ok (.iconst 0, 1) := dk_3 (dk_at dksX7_fortuneOf_0 4 rfl rfl)
theorem dX7_fortuneOf_5 : decode cX7_fortuneOf 5 = .ok (.istore 4, 2) := dk_54 4 (dk_at dksX7_fortuneOf_0 5 rfl rfl)
theorem dX7_fortuneOf_7 : decode cX7_fortuneOf 7 = .ok (.iload 4, 2) := dk_21 4 (dk_at dksX7_fortuneOf_0 7 rfl rfl)
theorem dX7_fortuneOf_9 : decode cX7_fortuneOf 9 = .ok (.sipush 256, 3) := dk_17 1 0 (dk_at dksX7_fortuneOf_0 9 rfl rfl)
theorem dX7_fortuneOf_12 : decode cX7_fortuneOf 12 = .ok (.if_icmp .ge 38, 3) := dk_162 0 38 (dk_at dksX7_fortuneOf_0 12 rfl rfl)
theorem dX7_fortuneOf_15 : decode cX7_fortuneOf 15 = .ok (.iload 4, 2) := dk_21 4 (dk_at dksX7_fortuneOf_0 15 rfl rfl)
theorem dX7_fortuneOf_17 : decode cX7_fortuneOf 17 = .ok (.aload_n 0, 1) := dk_42 (dk_at dksX7_fortuneOf_0 17 rfl rfl)
theorem dX7_fortuneOf_18 : decode cX7_fortuneOf 18 = .ok (.iconst 0, 1) := dk_3 (dk_at dksX7_fortuneOf_0 18 rfl rfl)
theorem dX7_fortuneOf_19 : decode cX7_fortuneOf 19 = .ok (.invokevirtual 60, 3) := dk_182 0 60 (dk_at dksX7_fortuneOf_0 19 rfl rfl)
theorem dX7_fortuneOf_22 : decode cX7_fortuneOf 22 = .ok (.iconst (-1), 1) := dk_2 (dk_at dksX7_fortuneOf_0 22 rfl rfl)
theorem dX7_fortuneOf_23 : decode cX7_fortuneOf 23 = .ok (.ixor, 1) := dk_130 (dk_at dksX7_fortuneOf_0 23 rfl rfl)
theorem dX7_fortuneOf_24 : decode cX7_fortuneOf 24 = .ok (.iand, 1) := dk_126 (dk_at dksX7_fortuneOf_1 0 rfl rfl)
theorem dX7_fortuneOf_25 : decode cX7_fortuneOf 25 = .ok (.ifCond .eq 6, 3) := dk_153 0 6 (dk_at dksX7_fortuneOf_1 1 rfl rfl)
theorem dX7_fortuneOf_28 : decode cX7_fortuneOf 28 = .ok (.goto 16, 3) := dk_167 0 16 (dk_at dksX7_fortuneOf_1 4 rfl rfl)
theorem dX7_fortuneOf_31 : decode cX7_fortuneOf 31 = .ok (.iload_n 2, 1) := dk_28 (dk_at dksX7_fortuneOf_1 7 rfl rfl)
theorem dX7_fortuneOf_32 : decode cX7_fortuneOf 32 = .ok (.aload_n 0, 1) := dk_42 (dk_at dksX7_fortuneOf_1 8 rfl rfl)
theorem dX7_fortuneOf_33 : decode cX7_fortuneOf 33 = .ok (.iload_n 1, 1) := dk_27 (dk_at dksX7_fortuneOf_1 9 rfl rfl)
theorem dX7_fortuneOf_34 : decode cX7_fortuneOf 34 = .ok (.iload 4, 2) := dk_21 4 (dk_at dksX7_fortuneOf_1 10 rfl rfl)
theorem dX7_fortuneOf_36 : decode cX7_fortuneOf 36 = .ok (.invokevirtual 303, 3) := dk_182 1 47 (dk_at dksX7_fortuneOf_1 12 rfl rfl)
theorem dX7_fortuneOf_39 : decode cX7_fortuneOf 39 = .ok (.iadd, 1) := dk_96 (dk_at dksX7_fortuneOf_1 15 rfl rfl)
theorem dX7_fortuneOf_40 : decode cX7_fortuneOf 40 = .ok (.istore_n 2, 1) := dk_61 (dk_at dksX7_fortuneOf_1 16 rfl rfl)
theorem dX7_fortuneOf_41 : decode cX7_fortuneOf 41 = .ok (.iinc 3 1, 3) := dk_132 3 1 (dk_at dksX7_fortuneOf_1 17 rfl rfl)
theorem dX7_fortuneOf_44 : decode cX7_fortuneOf 44 = .ok (.iinc 4 1, 3) := dk_132 4 1 (dk_at dksX7_fortuneOf_1 20 rfl rfl)
theorem dX7_fortuneOf_47 : decode cX7_fortuneOf 47 = .ok (.goto (-40), 3) := dk_167 255 216 (dk_at dksX7_fortuneOf_2 0 rfl rfl)
theorem dX7_fortuneOf_50 : decode cX7_fortuneOf 50 = .ok (.iload_n 2, 1) := dk_28 (dk_at dksX7_fortuneOf_2 3 rfl rfl)
theorem dX7_fortuneOf_51 : decode cX7_fortuneOf 51 = .ok (.iload_n 3, 1) := dk_29 (dk_at dksX7_fortuneOf_2 4 rfl rfl)
theorem dX7_fortuneOf_52 : decode cX7_fortuneOf 52 = .ok (.idiv, 1) := dk_108 (dk_at dksX7_fortuneOf_2 5 rfl rfl)
theorem dX7_fortuneOf_53 : decode cX7_fortuneOf 53 = .ok (.ireturn, 1) := dk_172 (dk_at dksX7_fortuneOf_2 6 rfl rfl)
abbrev cX7_ink : ByteArray := prog_20_method_66_code
def yX7_ink : MethodName := ⟨RX7, "ink", "(II)I"⟩
def dkwX7_ink_2 : List UInt8 := [182, 0, 67, 167, 0, 8, 42, 27, 182, 1, 66, 172]
abbrev dktX7_ink_2 : List UInt8 := dkwX7_ink_2 ++ []
def dkwX7_ink_1 : List UInt8 := [167, 0, 4, 3, 181, 0, 45, 42, 180, 0, 45, 158, 0, 5, 3, 172, 28, 6, 162, 0, 12, 42, 27, 28]
abbrev dktX7_ink_1 : List UInt8 := dkwX7_ink_1 ++ dktX7_ink_2
def dkwX7_ink_0 : List UInt8 := [42, 42, 27, 182, 1, 63, 154, 0, 7, 4, 167, 0, 17, 28, 3, 6, 184, 0, 48, 154, 0, 7, 5]
abbrev dktX7_ink_0 : List UInt8 := dkwX7_ink_0 ++ dktX7_ink_1
theorem dksX7_ink_0 : cX7_ink.data.toList.drop 0 = dktX7_ink_0 := by decide +kernel
theorem dksX7_ink_1 : cX7_ink.data.toList.drop 23 = dktX7_ink_1 := dk_seg dksX7_ink_0 23 rfl rfl
theorem dksX7_ink_2 : cX7_ink.data.toList.drop 47 = dktX7_ink_2 := dk_seg dksX7_ink_1 24 rfl rfl
theorem dX7_ink_0 : decode cX7_ink 0 = .ok (.aload_n 0, 1) := dk_42 (dk_at dksX7_ink_0 0 rfl rfl)
theorem dX7_ink_1 : decode cX7_ink 1 = .ok (.aload_n 0, 1) := dk_42 (dk_at dksX7_ink_0 1 rfl rfl)
theorem dX7_ink_2 : decode cX7_ink 2 = .ok (.iload_n 1, 1) := dk_27 (dk_at dksX7_ink_0 2 rfl rfl)
theorem dX7_ink_3 : decode cX7_ink 3 = .ok (.invokevirtual 319, 3) := dk_182 1 63 (dk_at dksX7_ink_0 3 rfl rfl)
theorem dX7_ink_6 : decode cX7_ink 6 = .ok (.ifCond .ne 7, 3) := dk_154 0 7 (dk_at dksX7_ink_0 6 rfl rfl)
theorem dX7_ink_9 : decode cX7_ink 9 = .ok (.iconst 1, 1) := dk_4 (dk_at dksX7_ink_0 9 rfl rfl)
theorem dX7_ink_10 : decode cX7_ink 10 = .ok (.goto 17, 3) := dk_167 0 17 (dk_at dksX7_ink_0 10 rfl rfl)
theorem dX7_ink_13 : decode cX7_ink 13 = .ok (.iload_n 2, 1) := dk_28 (dk_at dksX7_ink_0 13 rfl rfl)
theorem dX7_ink_14 : decode cX7_ink 14 = .ok (.iconst 0, 1) := dk_3 (dk_at dksX7_ink_0 14 rfl rfl)
theorem dX7_ink_15 : decode cX7_ink 15 = .ok (.iconst 3, 1) := dk_6 (dk_at dksX7_ink_0 15 rfl rfl)
theorem dX7_ink_16 : decode cX7_ink 16 = .ok (.invokestatic 48, 3) := dk_184 0 48 (dk_at dksX7_ink_0 16 rfl rfl)
theorem dX7_ink_19 : decode cX7_ink 19 = .ok (.ifCond .ne 7, 3) := dk_154 0 7 (dk_at dksX7_ink_0 19 rfl rfl)
theorem dX7_ink_22 : decode cX7_ink 22 = .ok (.iconst 2, 1) := dk_5 (dk_at dksX7_ink_0 22 rfl rfl)
theorem dX7_ink_23 : decode cX7_ink 23 = .ok (.goto 4, 3) := dk_167 0 4 (dk_at dksX7_ink_1 0 rfl rfl)
theorem dX7_ink_26 : decode cX7_ink 26 = .ok (.iconst 0, 1) := dk_3 (dk_at dksX7_ink_1 3 rfl rfl)
theorem dX7_ink_27 : decode cX7_ink 27 = .ok (.putfield 45, 3) := dk_181 0 45 (dk_at dksX7_ink_1 4 rfl rfl)
theorem dX7_ink_30 : decode cX7_ink 30 = .ok (.aload_n 0, 1) := dk_42 (dk_at dksX7_ink_1 7 rfl rfl)
theorem dX7_ink_31 : decode cX7_ink 31 = .ok (.getfield 45, 3) := dk_180 0 45 (dk_at dksX7_ink_1 8 rfl rfl)
theorem dX7_ink_34 : decode cX7_ink 34 = .ok (.ifCond .le 5, 3) := dk_158 0 5 (dk_at dksX7_ink_1 11 rfl rfl)
theorem dX7_ink_37 : decode cX7_ink 37 = .ok (.iconst 0, 1) := dk_3 (dk_at dksX7_ink_1 14 rfl rfl)
theorem dX7_ink_38 : decode cX7_ink 38 = .ok (.ireturn, 1) := dk_172 (dk_at dksX7_ink_1 15 rfl rfl)
theorem dX7_ink_39 : decode cX7_ink 39 = .ok (.iload_n 2, 1) := dk_28 (dk_at dksX7_ink_1 16 rfl rfl)
theorem dX7_ink_40 : decode cX7_ink 40 = .ok (.iconst 3, 1) := dk_6 (dk_at dksX7_ink_1 17 rfl rfl)
theorem dX7_ink_41 : decode cX7_ink 41 = .ok (.if_icmp .ge 12, 3) := dk_162 0 12 (dk_at dksX7_ink_1 18 rfl rfl)
theorem dX7_ink_44 : decode cX7_ink 44 = .ok (.aload_n 0, 1) := dk_42 (dk_at dksX7_ink_1 21 rfl rfl)
theorem dX7_ink_45 : decode cX7_ink 45 = .ok (.iload_n 1, 1) := dk_27 (dk_at dksX7_ink_1 22 rfl rfl)
theorem dX7_ink_46 : decode cX7_ink 46 = .ok (.iload_n 2, 1) := dk_28 (dk_at dksX7_ink_1 23 rfl rfl)
theorem dX7_ink_47 : decode cX7_ink 47 = .ok (.invokevirtual 67, 3) := dk_182 0 67 (dk_at dksX7_ink_2 0 rfl rfl)
theorem dX7_ink_50 : decode cX7_ink 50 = .ok (.goto 8, 3) := dk_167 0 8 (dk_at dksX7_ink_2 3 rfl rfl)
theorem dX7_ink_53 : decode cX7_ink 53 = .ok (.aload_n 0, 1) := dk_42 (dk_at dksX7_ink_2 6 rfl rfl)
theorem dX7_ink_54 : decode cX7_ink 54 = .ok (.iload_n 1, 1) := dk_27 (dk_at dksX7_ink_2 7 rfl rfl)
theorem dX7_ink_55 : decode cX7_ink 55 = .ok (.invokevirtual 322, 3) := dk_182 1 66 (dk_at dksX7_ink_2 8 rfl rfl)
theorem dX7_ink_58 : decode cX7_ink 58 = .ok (.ireturn, 1) := dk_172 (dk_at dksX7_ink_2 11 rfl rfl)
abbrev cX7_isInk : ByteArray := prog_20_method_13_code
def yX7_isInk : MethodName := ⟨RX7, "isInk", "(I)Z"⟩
def dkwX7_isInk_0 : List UInt8 := [27, 3, 42, 180, 0, 7, 7, 46, 4, 100, 184, 0, 48, 172]
abbrev dktX7_isInk_0 : List UInt8 := dkwX7_isInk_0 ++ []
theorem dksX7_isInk_0 : cX7_isInk.data.toList.drop 0 = dktX7_isInk_0 := by decide +kernel
theorem dX7_isInk_0 : decode cX7_isInk 0 = .ok (.iload_n 1, 1) := dk_27 (dk_at dksX7_isInk_0 0 rfl rfl)
theorem dX7_isInk_1 : decode cX7_isInk 1 = .ok (.iconst 0, 1) := dk_3 (dk_at dksX7_isInk_0 1 rfl rfl)
theorem dX7_isInk_2 : decode cX7_isInk 2 = .ok (.aload_n 0, 1) := dk_42 (dk_at dksX7_isInk_0 2 rfl rfl)
theorem dX7_isInk_3 : decode cX7_isInk 3 = .ok (.getfield 7, 3) := dk_180 0 7 (dk_at dksX7_isInk_0 3 rfl rfl)
theorem dX7_isInk_6 : decode cX7_isInk 6 = .ok (.iconst 4, 1) := dk_7 (dk_at dksX7_isInk_0 6 rfl rfl)
theorem dX7_isInk_7 : decode cX7_isInk 7 = .ok (.iaload, 1) := dk_46 (dk_at dksX7_isInk_0 7 rfl rfl)
theorem dX7_isInk_8 : decode cX7_isInk 8 = .ok (.iconst 1, 1) := dk_4 (dk_at dksX7_isInk_0 8 rfl rfl)
theorem dX7_isInk_9 : decode cX7_isInk 9 = .ok (.isub, 1) := dk_100 (dk_at dksX7_isInk_0 9 rfl rfl)
theorem dX7_isInk_10 : decode cX7_isInk 10 = .ok (.invokestatic 48, 3) := dk_184 0 48 (dk_at dksX7_isInk_0 10 rfl rfl)
theorem dX7_isInk_13 : decode cX7_isInk 13 = .ok (.ireturn, 1) := dk_172 (dk_at dksX7_isInk_0 13 rfl rfl)
abbrev cX7_ofInk : ByteArray := prog_20_method_10_code
def yX7_ofInk : MethodName := ⟨RX7, "ofInk", "(II)I"⟩
def dkwX7_ofInk_0 : List UInt8 := [42, 180, 0, 7, 16, 27, 6, 27, 104, 96, 28, 96, 46, 172]
abbrev dktX7_ofInk_0 : List UInt8 := dkwX7_ofInk_0 ++ []
theorem dksX7_ofInk_0 : cX7_ofInk.data.toList.drop 0 = dktX7_ofInk_0 := by decide +kernel
theorem dX7_ofInk_0 : decode cX7_ofInk 0 = .ok (.aload_n 0, 1) := dk_42 (dk_at dksX7_ofInk_0 0 rfl rfl)
theorem dX7_ofInk_1 : decode cX7_ofInk 1 = .ok (.getfield 7, 3) := dk_180 0 7 (dk_at dksX7_ofInk_0 1 rfl rfl)
theorem dX7_ofInk_4 : decode cX7_ofInk 4 = .ok (.bipush 27, 2) := dk_16 27 (dk_at dksX7_ofInk_0 4 rfl rfl)
theorem dX7_ofInk_6 : decode cX7_ofInk 6 = .ok (.iconst 3, 1) := dk_6 (dk_at dksX7_ofInk_0 6 rfl rfl)
theorem dX7_ofInk_7 : decode cX7_ofInk 7 = .ok (.iload_n 1, 1) := dk_27 (dk_at dksX7_ofInk_0 7 rfl rfl)
theorem dX7_ofInk_8 : decode cX7_ofInk 8 = .ok (.imul, 1) := dk_104 (dk_at dksX7_ofInk_0 8 rfl rfl)
theorem dX7_ofInk_9 : decode cX7_ofInk 9 = .ok (.iadd, 1) := dk_96 (dk_at dksX7_ofInk_0 9 rfl rfl)
theorem dX7_ofInk_10 : decode cX7_ofInk 10 = .ok (.iload_n 2, 1) := dk_28 (dk_at dksX7_ofInk_0 10 rfl rfl)
theorem dX7_ofInk_11 : decode cX7_ofInk 11 = .ok (.iadd, 1) := dk_96 (dk_at dksX7_ofInk_0 11 rfl rfl)
theorem dX7_ofInk_12 : decode cX7_ofInk 12 = .ok (.iaload, 1) := dk_46 (dk_at dksX7_ofInk_0 12 rfl rfl)
theorem dX7_ofInk_13 : decode cX7_ofInk 13 = .ok (.ireturn, 1) := dk_172 (dk_at dksX7_ofInk_0 13 rfl rfl)
abbrev cX7_jarOf : ByteArray := prog_20_method_65_code
def yX7_jarOf : MethodName := ⟨RX7, "jarOf", "(I)I"⟩
def dkwX7_jarOf_1 : List UInt8 := [160, 0, 9, 4, 29, 120, 167, 0, 4, 3, 128, 61, 132, 3, 1, 167, 255, 223, 28, 172]
abbrev dktX7_jarOf_1 : List UInt8 := dkwX7_jarOf_1 ++ []
def dkwX7_jarOf_0 : List UInt8 := [3, 61, 3, 62, 29, 42, 180, 0, 7, 8, 46, 162, 0, 29, 28, 42, 29, 3, 182, 0, 52, 27]
abbrev dktX7_jarOf_0 : List UInt8 := dkwX7_jarOf_0 ++ dktX7_jarOf_1
theorem dksX7_jarOf_0 : cX7_jarOf.data.toList.drop 0 = dktX7_jarOf_0 := by decide +kernel
theorem dksX7_jarOf_1 : cX7_jarOf.data.toList.drop 22 = dktX7_jarOf_1 := dk_seg dksX7_jarOf_0 22 rfl rfl
theorem dX7_jarOf_0 : decode cX7_jarOf 0 = .ok (.iconst 0, 1) := dk_3 (dk_at dksX7_jarOf_0 0 rfl rfl)
theorem dX7_jarOf_1 : decode cX7_jarOf 1 = .ok (.istore_n 2, 1) := dk_61 (dk_at dksX7_jarOf_0 1 rfl rfl)
theorem dX7_jarOf_2 : decode cX7_jarOf 2 = .ok (.iconst 0, 1) := dk_3 (dk_at dksX7_jarOf_0 2 rfl rfl)
theorem dX7_jarOf_3 : decode cX7_jarOf 3 = .ok (.istore_n 3, 1) := dk_62 (dk_at dksX7_jarOf_0 3 rfl rfl)
theorem dX7_jarOf_4 : decode cX7_jarOf 4 = .ok (.iload_n 3, 1) := dk_29 (dk_at dksX7_jarOf_0 4 rfl rfl)
theorem dX7_jarOf_5 : decode cX7_jarOf 5 = .ok (.aload_n 0, 1) := dk_42 (dk_at dksX7_jarOf_0 5 rfl rfl)
theorem dX7_jarOf_6 : decode cX7_jarOf 6 = .ok (.getfield 7, 3) := dk_180 0 7 (dk_at dksX7_jarOf_0 6 rfl rfl)
theorem dX7_jarOf_9 : decode cX7_jarOf 9 = .ok (.iconst 5, 1) := dk_8 (dk_at dksX7_jarOf_0 9 rfl rfl)
theorem dX7_jarOf_10 : decode cX7_jarOf 10 = .ok (.iaload, 1) := dk_46 (dk_at dksX7_jarOf_0 10 rfl rfl)
theorem dX7_jarOf_11 : decode cX7_jarOf 11 = .ok (.if_icmp .ge 29, 3) := dk_162 0 29 (dk_at dksX7_jarOf_0 11 rfl rfl)
theorem dX7_jarOf_14 : decode cX7_jarOf 14 = .ok (.iload_n 2, 1) := dk_28 (dk_at dksX7_jarOf_0 14 rfl rfl)
theorem dX7_jarOf_15 : decode cX7_jarOf 15 = .ok (.aload_n 0, 1) := dk_42 (dk_at dksX7_jarOf_0 15 rfl rfl)
theorem dX7_jarOf_16 : decode cX7_jarOf 16 = .ok (.iload_n 3, 1) := dk_29 (dk_at dksX7_jarOf_0 16 rfl rfl)
theorem dX7_jarOf_17 : decode cX7_jarOf 17 = .ok (.iconst 0, 1) := dk_3 (dk_at dksX7_jarOf_0 17 rfl rfl)
theorem dX7_jarOf_18 : decode cX7_jarOf 18 = .ok (.invokevirtual 52, 3) := dk_182 0 52 (dk_at dksX7_jarOf_0 18 rfl rfl)
theorem dX7_jarOf_21 : decode cX7_jarOf 21 = .ok (.iload_n 1, 1) := dk_27 (dk_at dksX7_jarOf_0 21 rfl rfl)
theorem dX7_jarOf_22 : decode cX7_jarOf 22 = .ok (.if_icmp .ne 9, 3) := dk_160 0 9 (dk_at dksX7_jarOf_1 0 rfl rfl)
theorem dX7_jarOf_25 : decode cX7_jarOf 25 = .ok (.iconst 1, 1) := dk_4 (dk_at dksX7_jarOf_1 3 rfl rfl)
theorem dX7_jarOf_26 : decode cX7_jarOf 26 = .ok (.iload_n 3, 1) := dk_29 (dk_at dksX7_jarOf_1 4 rfl rfl)
theorem dX7_jarOf_27 : decode cX7_jarOf 27 = .ok (.ishl, 1) := dk_120 (dk_at dksX7_jarOf_1 5 rfl rfl)
theorem dX7_jarOf_28 : decode cX7_jarOf 28 = .ok (.goto 4, 3) := dk_167 0 4 (dk_at dksX7_jarOf_1 6 rfl rfl)
theorem dX7_jarOf_31 : decode cX7_jarOf 31 = .ok (.iconst 0, 1) := dk_3 (dk_at dksX7_jarOf_1 9 rfl rfl)
theorem dX7_jarOf_32 : decode cX7_jarOf 32 = .ok (.ior, 1) := dk_128 (dk_at dksX7_jarOf_1 10 rfl rfl)
theorem dX7_jarOf_33 : decode cX7_jarOf 33 = .ok (.istore_n 2, 1) := dk_61 (dk_at dksX7_jarOf_1 11 rfl rfl)
theorem dX7_jarOf_34 : decode cX7_jarOf 34 = .ok (.iinc 3 1, 3) := dk_132 3 1 (dk_at dksX7_jarOf_1 12 rfl rfl)
theorem dX7_jarOf_37 : decode cX7_jarOf 37 = .ok (.goto (-33), 3) := dk_167 255 223 (dk_at dksX7_jarOf_1 15 rfl rfl)
theorem dX7_jarOf_40 : decode cX7_jarOf 40 = .ok (.iload_n 2, 1) := dk_28 (dk_at dksX7_jarOf_1 18 rfl rfl)
theorem dX7_jarOf_41 : decode cX7_jarOf 41 = .ok (.ireturn, 1) := dk_172 (dk_at dksX7_jarOf_1 19 rfl rfl)
abbrev cX7_deed : ByteArray := prog_20_method_67_code
def yX7_deed : MethodName := ⟨RX7, "deed", "(II)I"⟩
def dkwX7_deed_4 : List UInt8 := [167, 0, 12, 3, 167, 0, 8, 42, 27, 182, 1, 72, 172]
abbrev dktX7_deed_4 : List UInt8 := dkwX7_deed_4 ++ []
def dkwX7_deed_3 : List UInt8 := [160, 0, 8, 42, 180, 1, 7, 172, 28, 16, 14, 160, 0, 19, 42, 27, 182, 1, 38, 153, 0, 7, 4]
abbrev dktX7_deed_3 : List UInt8 := dkwX7_deed_3 ++ dktX7_deed_4
def dkwX7_deed_2 : List UInt8 := [28, 182, 0, 52, 172, 42, 27, 182, 1, 16, 28, 16, 12, 160, 0, 8, 42, 180, 1, 4, 172, 28, 16, 13]
abbrev dktX7_deed_2 : List UInt8 := dkwX7_deed_2 ++ dktX7_deed_3
def dkwX7_deed_1 : List UInt8 := [167, 0, 4, 3, 181, 0, 45, 42, 180, 0, 45, 158, 0, 5, 3, 172, 28, 16, 12, 162, 0, 10, 42, 27]
abbrev dktX7_deed_1 : List UInt8 := dkwX7_deed_1 ++ dktX7_deed_2
def dkwX7_deed_0 : List UInt8 := [42, 42, 27, 182, 1, 69, 154, 0, 7, 4, 167, 0, 18, 28, 3, 16, 15, 184, 0, 48, 154, 0, 7, 5]
abbrev dktX7_deed_0 : List UInt8 := dkwX7_deed_0 ++ dktX7_deed_1
theorem dksX7_deed_0 : cX7_deed.data.toList.drop 0 = dktX7_deed_0 := by decide +kernel
theorem dksX7_deed_1 : cX7_deed.data.toList.drop 24 = dktX7_deed_1 := dk_seg dksX7_deed_0 24 rfl rfl
theorem dksX7_deed_2 : cX7_deed.data.toList.drop 48 = dktX7_deed_2 := dk_seg dksX7_deed_1 24 rfl rfl
theorem dksX7_deed_3 : cX7_deed.data.toList.drop 72 = dktX7_deed_3 := dk_seg dksX7_deed_2 24 rfl rfl
theorem dksX7_deed_4 : cX7_deed.data.toList.drop 95 = dktX7_deed_4 := dk_seg dksX7_deed_3 23 rfl rfl
theorem dX7_deed_0 : decode cX7_deed 0 = .ok (.aload_n 0, 1) := dk_42 (dk_at dksX7_deed_0 0 rfl rfl)
theorem dX7_deed_1 : decode cX7_deed 1 = .ok (.aload_n 0, 1) := dk_42 (dk_at dksX7_deed_0 1 rfl rfl)
theorem dX7_deed_2 : decode cX7_deed 2 = .ok (.iload_n 1, 1) := dk_27 (dk_at dksX7_deed_0 2 rfl rfl)
theorem dX7_deed_3 : decode cX7_deed 3 = .ok (.invokevirtual 325, 3) := dk_182 1 69 (dk_at dksX7_deed_0 3 rfl rfl)
theorem dX7_deed_6 : decode cX7_deed 6 = .ok (.ifCond .ne 7, 3) := dk_154 0 7 (dk_at dksX7_deed_0 6 rfl rfl)
theorem dX7_deed_9 : decode cX7_deed 9 = .ok (.iconst 1, 1) := dk_4 (dk_at dksX7_deed_0 9 rfl rfl)
theorem dX7_deed_10 : decode cX7_deed 10 = .ok (.goto 18, 3) := dk_167 0 18 (dk_at dksX7_deed_0 10 rfl rfl)
theorem dX7_deed_13 : decode cX7_deed 13 = .ok (.iload_n 2, 1) := dk_28 (dk_at dksX7_deed_0 13 rfl rfl)
theorem dX7_deed_14 : decode cX7_deed 14 = .ok (.iconst 0, 1) := dk_3 (dk_at dksX7_deed_0 14 rfl rfl)
theorem dX7_deed_15 : decode cX7_deed 15 = .ok (.bipush 15, 2) := dk_16 15 (dk_at dksX7_deed_0 15 rfl rfl)
theorem dX7_deed_17 : decode cX7_deed 17 = .ok (.invokestatic 48, 3) := dk_184 0 48 (dk_at dksX7_deed_0 17 rfl rfl)
theorem dX7_deed_20 : decode cX7_deed 20 = .ok (.ifCond .ne 7, 3) := dk_154 0 7 (dk_at dksX7_deed_0 20 rfl rfl)
theorem dX7_deed_23 : decode cX7_deed 23 = .ok (.iconst 2, 1) := dk_5 (dk_at dksX7_deed_0 23 rfl rfl)
theorem dX7_deed_24 : decode cX7_deed 24 = .ok (.goto 4, 3) := dk_167 0 4 (dk_at dksX7_deed_1 0 rfl rfl)
theorem dX7_deed_27 : decode cX7_deed 27 = .ok (.iconst 0, 1) := dk_3 (dk_at dksX7_deed_1 3 rfl rfl)
theorem dX7_deed_28 : decode cX7_deed 28 = .ok (.putfield 45, 3) := dk_181 0 45 (dk_at dksX7_deed_1 4 rfl rfl)
theorem dX7_deed_31 : decode cX7_deed 31 = .ok (.aload_n 0, 1) := dk_42 (dk_at dksX7_deed_1 7 rfl rfl)
theorem dX7_deed_32 : decode cX7_deed 32 = .ok (.getfield 45, 3) := dk_180 0 45 (dk_at dksX7_deed_1 8 rfl rfl)
theorem dX7_deed_35 : decode cX7_deed 35 = .ok (.ifCond .le 5, 3) := dk_158 0 5 (dk_at dksX7_deed_1 11 rfl rfl)
theorem dX7_deed_38 : decode cX7_deed 38 = .ok (.iconst 0, 1) := dk_3 (dk_at dksX7_deed_1 14 rfl rfl)
theorem dX7_deed_39 : decode cX7_deed 39 = .ok (.ireturn, 1) := dk_172 (dk_at dksX7_deed_1 15 rfl rfl)
theorem dX7_deed_40 : decode cX7_deed 40 = .ok (.iload_n 2, 1) := dk_28 (dk_at dksX7_deed_1 16 rfl rfl)
theorem dX7_deed_41 : decode cX7_deed 41 = .ok (.bipush 12, 2) := dk_16 12 (dk_at dksX7_deed_1 17 rfl rfl)
theorem dX7_deed_43 : decode cX7_deed 43 = .ok (.if_icmp .ge 10, 3) := dk_162 0 10 (dk_at dksX7_deed_1 19 rfl rfl)
theorem dX7_deed_46 : decode cX7_deed 46 = .ok (.aload_n 0, 1) := dk_42 (dk_at dksX7_deed_1 22 rfl rfl)
theorem dX7_deed_47 : decode cX7_deed 47 = .ok (.iload_n 1, 1) := dk_27 (dk_at dksX7_deed_1 23 rfl rfl)
theorem dX7_deed_48 : decode cX7_deed 48 = .ok (.iload_n 2, 1) := dk_28 (dk_at dksX7_deed_2 0 rfl rfl)
theorem dX7_deed_49 : decode cX7_deed 49 = .ok (.invokevirtual 52, 3) := dk_182 0 52 (dk_at dksX7_deed_2 1 rfl rfl)
theorem dX7_deed_52 : decode cX7_deed 52 = .ok (.ireturn, 1) := dk_172 (dk_at dksX7_deed_2 4 rfl rfl)
theorem dX7_deed_53 : decode cX7_deed 53 = .ok (.aload_n 0, 1) := dk_42 (dk_at dksX7_deed_2 5 rfl rfl)
theorem dX7_deed_54 : decode cX7_deed 54 = .ok (.iload_n 1, 1) := dk_27 (dk_at dksX7_deed_2 6 rfl rfl)
theorem dX7_deed_55 : decode cX7_deed 55 = .ok (.invokevirtual 272, 3) := dk_182 1 16 (dk_at dksX7_deed_2 7 rfl rfl)
theorem dX7_deed_58 : decode cX7_deed 58 = .ok (.iload_n 2, 1) := dk_28 (dk_at dksX7_deed_2 10 rfl rfl)
theorem dX7_deed_59 : decode cX7_deed 59 = .ok (.bipush 12, 2) := dk_16 12 (dk_at dksX7_deed_2 11 rfl rfl)
theorem dX7_deed_61 : decode cX7_deed 61 = .ok (.if_icmp .ne 8, 3) := dk_160 0 8 (dk_at dksX7_deed_2 13 rfl rfl)
theorem dX7_deed_64 : decode cX7_deed 64 = .ok (.aload_n 0, 1) := dk_42 (dk_at dksX7_deed_2 16 rfl rfl)
theorem dX7_deed_65 : decode cX7_deed 65 = .ok (.getfield 260, 3) := dk_180 1 4 (dk_at dksX7_deed_2 17 rfl rfl)
theorem dX7_deed_68 : decode cX7_deed 68 = .ok (.ireturn, 1) := dk_172 (dk_at dksX7_deed_2 20 rfl rfl)
theorem dX7_deed_69 : decode cX7_deed 69 = .ok (.iload_n 2, 1) := dk_28 (dk_at dksX7_deed_2 21 rfl rfl)
theorem dX7_deed_70 : decode cX7_deed 70 = .ok (.bipush 13, 2) := dk_16 13 (dk_at dksX7_deed_2 22 rfl rfl)
theorem dX7_deed_72 : decode cX7_deed 72 = .ok (.if_icmp .ne 8, 3) := dk_160 0 8 (dk_at dksX7_deed_3 0 rfl rfl)
theorem dX7_deed_75 : decode cX7_deed 75 = .ok (.aload_n 0, 1) := dk_42 (dk_at dksX7_deed_3 3 rfl rfl)
theorem dX7_deed_76 : decode cX7_deed 76 = .ok (.getfield 263, 3) := dk_180 1 7 (dk_at dksX7_deed_3 4 rfl rfl)
theorem dX7_deed_79 : decode cX7_deed 79 = .ok (.ireturn, 1) := dk_172 (dk_at dksX7_deed_3 7 rfl rfl)
theorem dX7_deed_80 : decode cX7_deed 80 = .ok (.iload_n 2, 1) := dk_28 (dk_at dksX7_deed_3 8 rfl rfl)
theorem dX7_deed_81 : decode cX7_deed 81 = .ok (.bipush 14, 2) := dk_16 14 (dk_at dksX7_deed_3 9 rfl rfl)
theorem dX7_deed_83 : decode cX7_deed 83 = .ok (.if_icmp .ne 19, 3) := dk_160 0 19 (dk_at dksX7_deed_3 11 rfl rfl)
theorem dX7_deed_86 : decode cX7_deed 86 = .ok (.aload_n 0, 1) := dk_42 (dk_at dksX7_deed_3 14 rfl rfl)
theorem dX7_deed_87 : decode cX7_deed 87 = .ok (.iload_n 1, 1) := dk_27 (dk_at dksX7_deed_3 15 rfl rfl)
theorem dX7_deed_88 : decode cX7_deed 88 = .ok (.invokevirtual 294, 3) := dk_182 1 38 (dk_at dksX7_deed_3 16 rfl rfl)
theorem dX7_deed_91 : decode cX7_deed 91 = .ok (.ifCond .eq 7, 3) := dk_153 0 7 (dk_at dksX7_deed_3 19 rfl rfl)
theorem dX7_deed_94 : decode cX7_deed 94 = .ok (.iconst 1, 1) := dk_4 (dk_at dksX7_deed_3 22 rfl rfl)
theorem dX7_deed_95 : decode cX7_deed 95 = .ok (.goto 12, 3) := dk_167 0 12 (dk_at dksX7_deed_4 0 rfl rfl)
theorem dX7_deed_98 : decode cX7_deed 98 = .ok (.iconst 0, 1) := dk_3 (dk_at dksX7_deed_4 3 rfl rfl)
theorem dX7_deed_99 : decode cX7_deed 99 = .ok (.goto 8, 3) := dk_167 0 8 (dk_at dksX7_deed_4 4 rfl rfl)
theorem dX7_deed_102 : decode cX7_deed 102 = .ok (.aload_n 0, 1) := dk_42 (dk_at dksX7_deed_4 7 rfl rfl)
theorem dX7_deed_103 : decode cX7_deed 103 = .ok (.iload_n 1, 1) := dk_27 (dk_at dksX7_deed_4 8 rfl rfl)
theorem dX7_deed_104 : decode cX7_deed 104 = .ok (.invokevirtual 328, 3) := dk_182 1 72 (dk_at dksX7_deed_4 9 rfl rfl)
theorem dX7_deed_107 : decode cX7_deed 107 = .ok (.ireturn, 1) := dk_172 (dk_at dksX7_deed_4 12 rfl rfl)
abbrev cX7_isDeed : ByteArray := prog_20_method_14_code
def yX7_isDeed : MethodName := ⟨RX7, "isDeed", "(I)Z"⟩
def dkwX7_isDeed_0 : List UInt8 := [27, 3, 42, 180, 0, 7, 8, 46, 4, 100, 184, 0, 48, 172]
abbrev dktX7_isDeed_0 : List UInt8 := dkwX7_isDeed_0 ++ []
theorem dksX7_isDeed_0 : cX7_isDeed.data.toList.drop 0 = dktX7_isDeed_0 := by decide +kernel
theorem dX7_isDeed_0 : decode cX7_isDeed 0 = .ok (.iload_n 1, 1) := dk_27 (dk_at dksX7_isDeed_0 0 rfl rfl)
theorem dX7_isDeed_1 : decode cX7_isDeed 1 = .ok (.iconst 0, 1) := dk_3 (dk_at dksX7_isDeed_0 1 rfl rfl)
theorem dX7_isDeed_2 : decode cX7_isDeed 2 = .ok (.aload_n 0, 1) := dk_42 (dk_at dksX7_isDeed_0 2 rfl rfl)
theorem dX7_isDeed_3 : decode cX7_isDeed 3 = .ok (.getfield 7, 3) := dk_180 0 7 (dk_at dksX7_isDeed_0 3 rfl rfl)
theorem dX7_isDeed_6 : decode cX7_isDeed 6 = .ok (.iconst 5, 1) := dk_8 (dk_at dksX7_isDeed_0 6 rfl rfl)
theorem dX7_isDeed_7 : decode cX7_isDeed 7 = .ok (.iaload, 1) := dk_46 (dk_at dksX7_isDeed_0 7 rfl rfl)
theorem dX7_isDeed_8 : decode cX7_isDeed 8 = .ok (.iconst 1, 1) := dk_4 (dk_at dksX7_isDeed_0 8 rfl rfl)
theorem dX7_isDeed_9 : decode cX7_isDeed 9 = .ok (.isub, 1) := dk_100 (dk_at dksX7_isDeed_0 9 rfl rfl)
theorem dX7_isDeed_10 : decode cX7_isDeed 10 = .ok (.invokestatic 48, 3) := dk_184 0 48 (dk_at dksX7_isDeed_0 10 rfl rfl)
theorem dX7_isDeed_13 : decode cX7_isDeed 13 = .ok (.ireturn, 1) := dk_172 (dk_at dksX7_isDeed_0 13 rfl rfl)
abbrev cX7_asks : ByteArray := prog_20_method_52_code
def yX7_asks : MethodName := ⟨RX7, "asks", "(I)V"⟩
def dkwX7_asks_9 : List UInt8 := [182, 0, 205, 54, 4, 42, 29, 181, 0, 25, 42, 3, 42, 180, 1, 4, 184, 1, 13, 181, 1, 4, 177]
abbrev dktX7_asks_9 : List UInt8 := dkwX7_asks_9 ++ []
def dkwX7_asks_8 : List UInt8 := [167, 0, 9, 42, 180, 0, 7, 5, 46, 181, 0, 79, 42, 3, 181, 0, 76, 42, 3, 181, 0, 186, 42, 4]
abbrev dktX7_asks_8 : List UInt8 := dkwX7_asks_8 ++ dktX7_asks_9
def dkwX7_asks_7 : List UInt8 := [181, 0, 25, 42, 17, 1, 125, 181, 0, 73, 42, 42, 180, 0, 7, 4, 46, 4, 162, 0, 7, 3]
abbrev dktX7_asks_7 : List UInt8 := dkwX7_asks_7 ++ dktX7_asks_8
def dkwX7_asks_6 : List UInt8 := [182, 0, 52, 2, 159, 0, 7, 4, 167, 0, 4, 3, 181, 0, 230, 42, 180, 0, 25, 62, 42, 2]
abbrev dktX7_asks_6 : List UInt8 := dkwX7_asks_6 ++ dktX7_asks_7
def dkwX7_asks_5 : List UInt8 := [42, 42, 27, 8, 182, 0, 52, 2, 159, 0, 7, 4, 167, 0, 4, 3, 181, 0, 224, 42, 42, 27, 16, 6]
abbrev dktX7_asks_5 : List UInt8 := dkwX7_asks_5 ++ dktX7_asks_6
def dkwX7_asks_4 : List UInt8 := [42, 180, 0, 7, 16, 11, 28, 96, 46, 79, 42, 180, 0, 29, 16, 6, 42, 180, 0, 7, 16, 7, 46, 79]
abbrev dktX7_asks_4 : List UInt8 := dkwX7_asks_4 ++ dktX7_asks_5
def dkwX7_asks_3 : List UInt8 := [180, 0, 29, 6, 42, 27, 16, 8, 182, 0, 52, 79, 42, 180, 0, 29, 7, 28, 79, 42, 180, 0, 29, 8]
abbrev dktX7_asks_3 : List UInt8 := dkwX7_asks_3 ++ dktX7_asks_4
def dkwX7_asks_2 : List UInt8 := [180, 0, 29, 4, 42, 27, 3, 182, 0, 52, 79, 42, 180, 0, 29, 5, 42, 27, 6, 182, 0, 52, 79, 42]
abbrev dktX7_asks_2 : List UInt8 := dkwX7_asks_2 ++ dktX7_asks_3
def dkwX7_asks_1 : List UInt8 := [181, 1, 4, 42, 42, 180, 0, 7, 16, 7, 46, 181, 1, 7, 42, 180, 0, 29, 3, 27, 79, 42]
abbrev dktX7_asks_1 : List UInt8 := dkwX7_asks_1 ++ dktX7_asks_2
def dkwX7_asks_0 : List UInt8 := [42, 180, 0, 7, 16, 6, 46, 7, 112, 61, 42, 4, 42, 42, 27, 3, 182, 0, 52, 28, 182, 1, 10, 96]
abbrev dktX7_asks_0 : List UInt8 := dkwX7_asks_0 ++ dktX7_asks_1
theorem dksX7_asks_0 : cX7_asks.data.toList.drop 0 = dktX7_asks_0 := by decide +kernel
theorem dksX7_asks_1 : cX7_asks.data.toList.drop 24 = dktX7_asks_1 := dk_seg dksX7_asks_0 24 rfl rfl
theorem dksX7_asks_2 : cX7_asks.data.toList.drop 46 = dktX7_asks_2 := dk_seg dksX7_asks_1 22 rfl rfl
theorem dksX7_asks_3 : cX7_asks.data.toList.drop 70 = dktX7_asks_3 := dk_seg dksX7_asks_2 24 rfl rfl
theorem dksX7_asks_4 : cX7_asks.data.toList.drop 94 = dktX7_asks_4 := dk_seg dksX7_asks_3 24 rfl rfl
theorem dksX7_asks_5 : cX7_asks.data.toList.drop 118 = dktX7_asks_5 := dk_seg dksX7_asks_4 24 rfl rfl
theorem dksX7_asks_6 : cX7_asks.data.toList.drop 142 = dktX7_asks_6 := dk_seg dksX7_asks_5 24 rfl rfl
theorem dksX7_asks_7 : cX7_asks.data.toList.drop 164 = dktX7_asks_7 := dk_seg dksX7_asks_6 22 rfl rfl
theorem dksX7_asks_8 : cX7_asks.data.toList.drop 186 = dktX7_asks_8 := dk_seg dksX7_asks_7 22 rfl rfl
theorem dksX7_asks_9 : cX7_asks.data.toList.drop 210 = dktX7_asks_9 := dk_seg dksX7_asks_8 24 rfl rfl
theorem dX7_asks_0 : decode cX7_asks 0 = .ok (.aload_n 0, 1) := dk_42 (dk_at dksX7_asks_0 0 rfl rfl)
theorem dX7_asks_1 : decode cX7_asks 1 = .ok (.getfield 7, 3) := dk_180 0 7 (dk_at dksX7_asks_0 1 rfl rfl)
theorem dX7_asks_4 : decode cX7_asks 4 = .ok (.bipush 6, 2) := dk_16 6 (dk_at dksX7_asks_0 4 rfl rfl)
theorem dX7_asks_6 : decode cX7_asks 6 = .ok (.iaload, 1) := dk_46 (dk_at dksX7_asks_0 6 rfl rfl)
theorem dX7_asks_7 : decode cX7_asks 7 = .ok (.iconst 4, 1) := dk_7 (dk_at dksX7_asks_0 7 rfl rfl)
theorem dX7_asks_8 : decode cX7_asks 8 = .ok (.irem, 1) := dk_112 (dk_at dksX7_asks_0 8 rfl rfl)
theorem dX7_asks_9 : decode cX7_asks 9 = .ok (.istore_n 2, 1) := dk_61 (dk_at dksX7_asks_0 9 rfl rfl)
theorem dX7_asks_10 : decode cX7_asks 10 = .ok (.aload_n 0, 1) := dk_42 (dk_at dksX7_asks_0 10 rfl rfl)
theorem dX7_asks_11 : decode cX7_asks 11 = .ok (.iconst 1, 1) := dk_4 (dk_at dksX7_asks_0 11 rfl rfl)
theorem dX7_asks_12 : decode cX7_asks 12 = .ok (.aload_n 0, 1) := dk_42 (dk_at dksX7_asks_0 12 rfl rfl)
theorem dX7_asks_13 : decode cX7_asks 13 = .ok (.aload_n 0, 1) := dk_42 (dk_at dksX7_asks_0 13 rfl rfl)
theorem dX7_asks_14 : decode cX7_asks 14 = .ok (.iload_n 1, 1) := dk_27 (dk_at dksX7_asks_0 14 rfl rfl)
theorem dX7_asks_15 : decode cX7_asks 15 = .ok (.iconst 0, 1) := dk_3 (dk_at dksX7_asks_0 15 rfl rfl)
theorem dX7_asks_16 : decode cX7_asks 16 = .ok (.invokevirtual 52, 3) := dk_182 0 52 (dk_at dksX7_asks_0 16 rfl rfl)
theorem dX7_asks_19 : decode cX7_asks 19 = .ok (.iload_n 2, 1) := dk_28 (dk_at dksX7_asks_0 19 rfl rfl)
theorem dX7_asks_20 : decode cX7_asks 20 = .ok (.invokevirtual 266, 3) := dk_182 1 10 (dk_at dksX7_asks_0 20 rfl rfl)
theorem dX7_asks_23 : decode cX7_asks 23 = .ok (.iadd, 1) := dk_96 (dk_at dksX7_asks_0 23 rfl rfl)
theorem dX7_asks_24 : decode cX7_asks 24 = .ok (.putfield 260, 3) := dk_181 1 4 (dk_at dksX7_asks_1 0 rfl rfl)
theorem dX7_asks_27 : decode cX7_asks 27 = .ok (.aload_n 0, 1) := dk_42 (dk_at dksX7_asks_1 3 rfl rfl)
theorem dX7_asks_28 : decode cX7_asks 28 = .ok (.aload_n 0, 1) := dk_42 (dk_at dksX7_asks_1 4 rfl rfl)
theorem dX7_asks_29 : decode cX7_asks 29 = .ok (.getfield 7, 3) := dk_180 0 7 (dk_at dksX7_asks_1 5 rfl rfl)
theorem dX7_asks_32 : decode cX7_asks 32 = .ok (.bipush 7, 2) := dk_16 7 (dk_at dksX7_asks_1 8 rfl rfl)
theorem dX7_asks_34 : decode cX7_asks 34 = .ok (.iaload, 1) := dk_46 (dk_at dksX7_asks_1 10 rfl rfl)
theorem dX7_asks_35 : decode cX7_asks 35 = .ok (.putfield 263, 3) := dk_181 1 7 (dk_at dksX7_asks_1 11 rfl rfl)
theorem dX7_asks_38 : decode cX7_asks 38 = .ok (.aload_n 0, 1) := dk_42 (dk_at dksX7_asks_1 14 rfl rfl)
theorem dX7_asks_39 : decode cX7_asks 39 = .ok (.getfield 29, 3) := dk_180 0 29 (dk_at dksX7_asks_1 15 rfl rfl)
theorem dX7_asks_42 : decode cX7_asks 42 = .ok (.iconst 0, 1) := dk_3 (dk_at dksX7_asks_1 18 rfl rfl)
theorem dX7_asks_43 : decode cX7_asks 43 = .ok (.iload_n 1, 1) := dk_27 (dk_at dksX7_asks_1 19 rfl rfl)
theorem dX7_asks_44 : decode cX7_asks 44 = .ok (.iastore, 1) := dk_79 (dk_at dksX7_asks_1 20 rfl rfl)
theorem dX7_asks_45 : decode cX7_asks 45 = .ok (.aload_n 0, 1) := dk_42 (dk_at dksX7_asks_1 21 rfl rfl)
theorem dX7_asks_46 : decode cX7_asks 46 = .ok (.getfield 29, 3) := dk_180 0 29 (dk_at dksX7_asks_2 0 rfl rfl)
theorem dX7_asks_49 : decode cX7_asks 49 = .ok (.iconst 1, 1) := dk_4 (dk_at dksX7_asks_2 3 rfl rfl)
theorem dX7_asks_50 : decode cX7_asks 50 = .ok (.aload_n 0, 1) := dk_42 (dk_at dksX7_asks_2 4 rfl rfl)
theorem dX7_asks_51 : decode cX7_asks 51 = .ok (.iload_n 1, 1) := dk_27 (dk_at dksX7_asks_2 5 rfl rfl)
theorem dX7_asks_52 : decode cX7_asks 52 = .ok (.iconst 0, 1) := dk_3 (dk_at dksX7_asks_2 6 rfl rfl)
theorem dX7_asks_53 : decode cX7_asks 53 = .ok (.invokevirtual 52, 3) := dk_182 0 52 (dk_at dksX7_asks_2 7 rfl rfl)
theorem dX7_asks_56 : decode cX7_asks 56 = .ok (.iastore, 1) := dk_79 (dk_at dksX7_asks_2 10 rfl rfl)
theorem dX7_asks_57 : decode cX7_asks 57 = .ok (.aload_n 0, 1) := dk_42 (dk_at dksX7_asks_2 11 rfl rfl)
theorem dX7_asks_58 : decode cX7_asks 58 = .ok (.getfield 29, 3) := dk_180 0 29 (dk_at dksX7_asks_2 12 rfl rfl)
theorem dX7_asks_61 : decode cX7_asks 61 = .ok (.iconst 2, 1) := dk_5 (dk_at dksX7_asks_2 15 rfl rfl)
theorem dX7_asks_62 : decode cX7_asks 62 = .ok (.aload_n 0, 1) := dk_42 (dk_at dksX7_asks_2 16 rfl rfl)
theorem dX7_asks_63 : decode cX7_asks 63 = .ok (.iload_n 1, 1) := dk_27 (dk_at dksX7_asks_2 17 rfl rfl)
theorem dX7_asks_64 : decode cX7_asks 64 = .ok (.iconst 3, 1) := dk_6 (dk_at dksX7_asks_2 18 rfl rfl)
theorem dX7_asks_65 : decode cX7_asks 65 = .ok (.invokevirtual 52, 3) := dk_182 0 52 (dk_at dksX7_asks_2 19 rfl rfl)
theorem dX7_asks_68 : decode cX7_asks 68 = .ok (.iastore, 1) := dk_79 (dk_at dksX7_asks_2 22 rfl rfl)
theorem dX7_asks_69 : decode cX7_asks 69 = .ok (.aload_n 0, 1) := dk_42 (dk_at dksX7_asks_2 23 rfl rfl)
theorem dX7_asks_70 : decode cX7_asks 70 = .ok (.getfield 29, 3) := dk_180 0 29 (dk_at dksX7_asks_3 0 rfl rfl)
theorem dX7_asks_73 : decode cX7_asks 73 = .ok (.iconst 3, 1) := dk_6 (dk_at dksX7_asks_3 3 rfl rfl)
theorem dX7_asks_74 : decode cX7_asks 74 = .ok (.aload_n 0, 1) := dk_42 (dk_at dksX7_asks_3 4 rfl rfl)
theorem dX7_asks_75 : decode cX7_asks 75 = .ok (.iload_n 1, 1) := dk_27 (dk_at dksX7_asks_3 5 rfl rfl)
theorem dX7_asks_76 : decode cX7_asks 76 = .ok (.bipush 8, 2) := dk_16 8 (dk_at dksX7_asks_3 6 rfl rfl)
theorem dX7_asks_78 : decode cX7_asks 78 = .ok (.invokevirtual 52, 3) := dk_182 0 52 (dk_at dksX7_asks_3 8 rfl rfl)
theorem dX7_asks_81 : decode cX7_asks 81 = .ok (.iastore, 1) := dk_79 (dk_at dksX7_asks_3 11 rfl rfl)
theorem dX7_asks_82 : decode cX7_asks 82 = .ok (.aload_n 0, 1) := dk_42 (dk_at dksX7_asks_3 12 rfl rfl)
theorem dX7_asks_83 : decode cX7_asks 83 = .ok (.getfield 29, 3) := dk_180 0 29 (dk_at dksX7_asks_3 13 rfl rfl)
theorem dX7_asks_86 : decode cX7_asks 86 = .ok (.iconst 4, 1) := dk_7 (dk_at dksX7_asks_3 16 rfl rfl)
theorem dX7_asks_87 : decode cX7_asks 87 = .ok (.iload_n 2, 1) := dk_28 (dk_at dksX7_asks_3 17 rfl rfl)
theorem dX7_asks_88 : decode cX7_asks 88 = .ok (.iastore, 1) := dk_79 (dk_at dksX7_asks_3 18 rfl rfl)
theorem dX7_asks_89 : decode cX7_asks 89 = .ok (.aload_n 0, 1) := dk_42 (dk_at dksX7_asks_3 19 rfl rfl)
theorem dX7_asks_90 : decode cX7_asks 90 = .ok (.getfield 29, 3) := dk_180 0 29 (dk_at dksX7_asks_3 20 rfl rfl)
theorem dX7_asks_93 : decode cX7_asks 93 = .ok (.iconst 5, 1) := dk_8 (dk_at dksX7_asks_3 23 rfl rfl)
theorem dX7_asks_94 : decode cX7_asks 94 = .ok (.aload_n 0, 1) := dk_42 (dk_at dksX7_asks_4 0 rfl rfl)
theorem dX7_asks_95 : decode cX7_asks 95 = .ok (.getfield 7, 3) := dk_180 0 7 (dk_at dksX7_asks_4 1 rfl rfl)
theorem dX7_asks_98 : decode cX7_asks 98 = .ok (.bipush 11, 2) := dk_16 11 (dk_at dksX7_asks_4 4 rfl rfl)
theorem dX7_asks_100 : decode cX7_asks 100 = .ok (.iload_n 2, 1) := dk_28 (dk_at dksX7_asks_4 6 rfl rfl)
theorem dX7_asks_101 : decode cX7_asks 101 = .ok (.iadd, 1) := dk_96 (dk_at dksX7_asks_4 7 rfl rfl)
theorem dX7_asks_102 : decode cX7_asks 102 = .ok (.iaload, 1) := dk_46 (dk_at dksX7_asks_4 8 rfl rfl)
theorem dX7_asks_103 : decode cX7_asks 103 = .ok (.iastore, 1) := dk_79 (dk_at dksX7_asks_4 9 rfl rfl)
theorem dX7_asks_104 : decode cX7_asks 104 = .ok (.aload_n 0, 1) := dk_42 (dk_at dksX7_asks_4 10 rfl rfl)
theorem dX7_asks_105 : decode cX7_asks 105 = .ok (.getfield 29, 3) := dk_180 0 29 (dk_at dksX7_asks_4 11 rfl rfl)
theorem dX7_asks_108 : decode cX7_asks 108 = .ok (.bipush 6, 2) := dk_16 6 (dk_at dksX7_asks_4 14 rfl rfl)
theorem dX7_asks_110 : decode cX7_asks 110 = .ok (.aload_n 0, 1) := dk_42 (dk_at dksX7_asks_4 16 rfl rfl)
theorem dX7_asks_111 : decode cX7_asks 111 = .ok (.getfield 7, 3) := dk_180 0 7 (dk_at dksX7_asks_4 17 rfl rfl)
theorem dX7_asks_114 : decode cX7_asks 114 = .ok (.bipush 7, 2) := dk_16 7 (dk_at dksX7_asks_4 20 rfl rfl)
theorem dX7_asks_116 : decode cX7_asks 116 = .ok (.iaload, 1) := dk_46 (dk_at dksX7_asks_4 22 rfl rfl)
theorem dX7_asks_117 : decode cX7_asks 117 = .ok (.iastore, 1) := dk_79 (dk_at dksX7_asks_4 23 rfl rfl)
theorem dX7_asks_118 : decode cX7_asks 118 = .ok (.aload_n 0, 1) := dk_42 (dk_at dksX7_asks_5 0 rfl rfl)
theorem dX7_asks_119 : decode cX7_asks 119 = .ok (.aload_n 0, 1) := dk_42 (dk_at dksX7_asks_5 1 rfl rfl)
theorem dX7_asks_120 : decode cX7_asks 120 = .ok (.iload_n 1, 1) := dk_27 (dk_at dksX7_asks_5 2 rfl rfl)
theorem dX7_asks_121 : decode cX7_asks 121 = .ok (.iconst 5, 1) := dk_8 (dk_at dksX7_asks_5 3 rfl rfl)
theorem dX7_asks_122 : decode cX7_asks 122 = .ok (.invokevirtual 52, 3) := dk_182 0 52 (dk_at dksX7_asks_5 4 rfl rfl)
theorem dX7_asks_125 : decode cX7_asks 125 = .ok (.iconst (-1), 1) := dk_2 (dk_at dksX7_asks_5 7 rfl rfl)
theorem dX7_asks_126 : decode cX7_asks 126 = .ok (.if_icmp .eq 7, 3) := dk_159 0 7 (dk_at dksX7_asks_5 8 rfl rfl)
theorem dX7_asks_129 : decode cX7_asks 129 = .ok (.iconst 1, 1) := dk_4 (dk_at dksX7_asks_5 11 rfl rfl)
theorem dX7_asks_130 : decode cX7_asks 130 = .ok (.goto 4, 3) := dk_167 0 4 (dk_at dksX7_asks_5 12 rfl rfl)
theorem dX7_asks_133 : decode cX7_asks 133 = .ok (.iconst 0, 1) := dk_3 (dk_at dksX7_asks_5 15 rfl rfl)
theorem dX7_asks_134 : decode cX7_asks 134 = .ok (.putfield 224, 3) := dk_181 0 224 (dk_at dksX7_asks_5 16 rfl rfl)
theorem dX7_asks_137 : decode cX7_asks 137 = .ok (.aload_n 0, 1) := dk_42 (dk_at dksX7_asks_5 19 rfl rfl)
theorem dX7_asks_138 : decode cX7_asks 138 = .ok (.aload_n 0, 1) := dk_42 (dk_at dksX7_asks_5 20 rfl rfl)
theorem dX7_asks_139 : decode cX7_asks 139 = .ok (.iload_n 1, 1) := dk_27 (dk_at dksX7_asks_5 21 rfl rfl)
theorem dX7_asks_140 : decode cX7_asks 140 = .ok (.bipush 6, 2) := dk_16 6 (dk_at dksX7_asks_5 22 rfl rfl)
theorem dX7_asks_142 : decode cX7_asks 142 = .ok (.invokevirtual 52, 3) := dk_182 0 52 (dk_at dksX7_asks_6 0 rfl rfl)
theorem dX7_asks_145 : decode cX7_asks 145 = .ok (.iconst (-1), 1) := dk_2 (dk_at dksX7_asks_6 3 rfl rfl)
theorem dX7_asks_146 : decode cX7_asks 146 = .ok (.if_icmp .eq 7, 3) := dk_159 0 7 (dk_at dksX7_asks_6 4 rfl rfl)
theorem dX7_asks_149 : decode cX7_asks 149 = .ok (.iconst 1, 1) := dk_4 (dk_at dksX7_asks_6 7 rfl rfl)
theorem dX7_asks_150 : decode cX7_asks 150 = .ok (.goto 4, 3) := dk_167 0 4 (dk_at dksX7_asks_6 8 rfl rfl)
theorem dX7_asks_153 : decode cX7_asks 153 = .ok (.iconst 0, 1) := dk_3 (dk_at dksX7_asks_6 11 rfl rfl)
theorem dX7_asks_154 : decode cX7_asks 154 = .ok (.putfield 230, 3) := dk_181 0 230 (dk_at dksX7_asks_6 12 rfl rfl)
theorem dX7_asks_157 : decode cX7_asks 157 = .ok (.aload_n 0, 1) := dk_42 (dk_at dksX7_asks_6 15 rfl rfl)
theorem dX7_asks_158 : decode cX7_asks 158 = .ok (.getfield 25, 3) := dk_180 0 25 (dk_at dksX7_asks_6 16 rfl rfl)
theorem dX7_asks_161 : decode cX7_asks 161 = .ok (.istore_n 3, 1) := dk_62 (dk_at dksX7_asks_6 19 rfl rfl)
theorem dX7_asks_162 : decode cX7_asks 162 = .ok (.aload_n 0, 1) := dk_42 (dk_at dksX7_asks_6 20 rfl rfl)
theorem dX7_asks_163 : decode cX7_asks 163 = .ok (.iconst (-1), 1) := dk_2 (dk_at dksX7_asks_6 21 rfl rfl)
theorem dX7_asks_164 : decode cX7_asks 164 = .ok (.putfield 25, 3) := dk_181 0 25 (dk_at dksX7_asks_7 0 rfl rfl)
theorem dX7_asks_167 : decode cX7_asks 167 = .ok (.aload_n 0, 1) := dk_42 (dk_at dksX7_asks_7 3 rfl rfl)
theorem dX7_asks_168 : decode cX7_asks 168 = .ok (.sipush 381, 3) := dk_17 1 125 (dk_at dksX7_asks_7 4 rfl rfl)
theorem dX7_asks_171 : decode cX7_asks 171 = .ok (.putfield 73, 3) := dk_181 0 73 (dk_at dksX7_asks_7 7 rfl rfl)
theorem dX7_asks_174 : decode cX7_asks 174 = .ok (.aload_n 0, 1) := dk_42 (dk_at dksX7_asks_7 10 rfl rfl)
theorem dX7_asks_175 : decode cX7_asks 175 = .ok (.aload_n 0, 1) := dk_42 (dk_at dksX7_asks_7 11 rfl rfl)
theorem dX7_asks_176 : decode cX7_asks 176 = .ok (.getfield 7, 3) := dk_180 0 7 (dk_at dksX7_asks_7 12 rfl rfl)
theorem dX7_asks_179 : decode cX7_asks 179 = .ok (.iconst 1, 1) := dk_4 (dk_at dksX7_asks_7 15 rfl rfl)
theorem dX7_asks_180 : decode cX7_asks 180 = .ok (.iaload, 1) := dk_46 (dk_at dksX7_asks_7 16 rfl rfl)
theorem dX7_asks_181 : decode cX7_asks 181 = .ok (.iconst 1, 1) := dk_4 (dk_at dksX7_asks_7 17 rfl rfl)
theorem dX7_asks_182 : decode cX7_asks 182 = .ok (.if_icmp .ge 7, 3) := dk_162 0 7 (dk_at dksX7_asks_7 18 rfl rfl)
theorem dX7_asks_185 : decode cX7_asks 185 = .ok (.iconst 0, 1) := dk_3 (dk_at dksX7_asks_7 21 rfl rfl)
theorem dX7_asks_186 : decode cX7_asks 186 = .ok (.goto 9, 3) := dk_167 0 9 (dk_at dksX7_asks_8 0 rfl rfl)
theorem dX7_asks_189 : decode cX7_asks 189 = .ok (.aload_n 0, 1) := dk_42 (dk_at dksX7_asks_8 3 rfl rfl)
theorem dX7_asks_190 : decode cX7_asks 190 = .ok (.getfield 7, 3) := dk_180 0 7 (dk_at dksX7_asks_8 4 rfl rfl)
theorem dX7_asks_193 : decode cX7_asks 193 = .ok (.iconst 2, 1) := dk_5 (dk_at dksX7_asks_8 7 rfl rfl)
theorem dX7_asks_194 : decode cX7_asks 194 = .ok (.iaload, 1) := dk_46 (dk_at dksX7_asks_8 8 rfl rfl)
theorem dX7_asks_195 : decode cX7_asks 195 = .ok (.putfield 79, 3) := dk_181 0 79 (dk_at dksX7_asks_8 9 rfl rfl)
theorem dX7_asks_198 : decode cX7_asks 198 = .ok (.aload_n 0, 1) := dk_42 (dk_at dksX7_asks_8 12 rfl rfl)
theorem dX7_asks_199 : decode cX7_asks 199 = .ok (.iconst 0, 1) := dk_3 (dk_at dksX7_asks_8 13 rfl rfl)
theorem dX7_asks_200 : decode cX7_asks 200 = .ok (.putfield 76, 3) := dk_181 0 76 (dk_at dksX7_asks_8 14 rfl rfl)
theorem dX7_asks_203 : decode cX7_asks 203 = .ok (.aload_n 0, 1) := dk_42 (dk_at dksX7_asks_8 17 rfl rfl)
theorem dX7_asks_204 : decode cX7_asks 204 = .ok (.iconst 0, 1) := dk_3 (dk_at dksX7_asks_8 18 rfl rfl)
theorem dX7_asks_205 : decode cX7_asks 205 = .ok (.putfield 186, 3) := dk_181 0 186 (dk_at dksX7_asks_8 19 rfl rfl)
theorem dX7_asks_208 : decode cX7_asks 208 = .ok (.aload_n 0, 1) := dk_42 (dk_at dksX7_asks_8 22 rfl rfl)
theorem dX7_asks_209 : decode cX7_asks 209 = .ok (.iconst 1, 1) := dk_4 (dk_at dksX7_asks_8 23 rfl rfl)
theorem dX7_asks_210 : decode cX7_asks 210 = .ok (.invokevirtual 205, 3) := dk_182 0 205 (dk_at dksX7_asks_9 0 rfl rfl)
theorem dX7_asks_213 : decode cX7_asks 213 = .ok (.istore 4, 2) := dk_54 4 (dk_at dksX7_asks_9 3 rfl rfl)
theorem dX7_asks_215 : decode cX7_asks 215 = .ok (.aload_n 0, 1) := dk_42 (dk_at dksX7_asks_9 5 rfl rfl)
theorem dX7_asks_216 : decode cX7_asks 216 = .ok (.iload_n 3, 1) := dk_29 (dk_at dksX7_asks_9 6 rfl rfl)
theorem dX7_asks_217 : decode cX7_asks 217 = .ok (.putfield 25, 3) := dk_181 0 25 (dk_at dksX7_asks_9 7 rfl rfl)
theorem dX7_asks_220 : decode cX7_asks 220 = .ok (.aload_n 0, 1) := dk_42 (dk_at dksX7_asks_9 10 rfl rfl)
theorem dX7_asks_221 : decode cX7_asks 221 = .ok (.iconst 0, 1) := dk_3 (dk_at dksX7_asks_9 11 rfl rfl)
theorem dX7_asks_222 : decode cX7_asks 222 = .ok (.aload_n 0, 1) := dk_42 (dk_at dksX7_asks_9 12 rfl rfl)
theorem dX7_asks_223 : decode cX7_asks 223 = .ok (.getfield 260, 3) := dk_180 1 4 (dk_at dksX7_asks_9 13 rfl rfl)
theorem dX7_asks_226 : decode cX7_asks 226 = .ok (.invokestatic 269, 3) := dk_184 1 13 (dk_at dksX7_asks_9 16 rfl rfl)
theorem dX7_asks_229 : decode cX7_asks 229 = .ok (.putfield 260, 3) := dk_181 1 4 (dk_at dksX7_asks_9 19 rfl rfl)
theorem dX7_asks_232 : decode cX7_asks 232 = .ok (.return_, 1) := dk_177 (dk_at dksX7_asks_9 22 rfl rfl)
abbrev cX7_soaked : ByteArray := prog_20_method_18_code
def yX7_soaked : MethodName := ⟨RX7, "soaked", "(II)I"⟩
def dkwX7_soaked_0 : List UInt8 := [42, 27, 5, 182, 0, 67, 42, 180, 0, 7, 16, 11, 28, 96, 46, 104, 16, 10, 108, 172]
abbrev dktX7_soaked_0 : List UInt8 := dkwX7_soaked_0 ++ []
theorem dksX7_soaked_0 : cX7_soaked.data.toList.drop 0 = dktX7_soaked_0 := by decide +kernel
theorem dX7_soaked_0 : decode cX7_soaked 0 = .ok (.aload_n 0, 1) := dk_42 (dk_at dksX7_soaked_0 0 rfl rfl)
theorem dX7_soaked_1 : decode cX7_soaked 1 = .ok (.iload_n 1, 1) := dk_27 (dk_at dksX7_soaked_0 1 rfl rfl)
theorem dX7_soaked_2 : decode cX7_soaked 2 = .ok (.iconst 2, 1) := dk_5 (dk_at dksX7_soaked_0 2 rfl rfl)
theorem dX7_soaked_3 : decode cX7_soaked 3 = .ok (.invokevirtual 67, 3) := dk_182 0 67 (dk_at dksX7_soaked_0 3 rfl rfl)
theorem dX7_soaked_6 : decode cX7_soaked 6 = .ok (.aload_n 0, 1) := dk_42 (dk_at dksX7_soaked_0 6 rfl rfl)
theorem dX7_soaked_7 : decode cX7_soaked 7 = .ok (.getfield 7, 3) := dk_180 0 7 (dk_at dksX7_soaked_0 7 rfl rfl)
theorem dX7_soaked_10 : decode cX7_soaked 10 = .ok (.bipush 11, 2) := dk_16 11 (dk_at dksX7_soaked_0 10 rfl rfl)
theorem dX7_soaked_12 : decode cX7_soaked 12 = .ok (.iload_n 2, 1) := dk_28 (dk_at dksX7_soaked_0 12 rfl rfl)
theorem dX7_soaked_13 : decode cX7_soaked 13 = .ok (.iadd, 1) := dk_96 (dk_at dksX7_soaked_0 13 rfl rfl)
theorem dX7_soaked_14 : decode cX7_soaked 14 = .ok (.iaload, 1) := dk_46 (dk_at dksX7_soaked_0 14 rfl rfl)
theorem dX7_soaked_15 : decode cX7_soaked 15 = .ok (.imul, 1) := dk_104 (dk_at dksX7_soaked_0 15 rfl rfl)
theorem dX7_soaked_16 : decode cX7_soaked 16 = .ok (.bipush 10, 2) := dk_16 10 (dk_at dksX7_soaked_0 16 rfl rfl)
theorem dX7_soaked_18 : decode cX7_soaked 18 = .ok (.idiv, 1) := dk_108 (dk_at dksX7_soaked_0 18 rfl rfl)
theorem dX7_soaked_19 : decode cX7_soaked 19 = .ok (.ireturn, 1) := dk_172 (dk_at dksX7_soaked_0 19 rfl rfl)
abbrev cX7_greater : ByteArray := prog_20_method_5_code
def yX7_greater : MethodName := ⟨RX7, "greater", "(II)I"⟩
def dkwX7_greater_0 : List UInt8 := [26, 27, 164, 0, 7, 26, 167, 0, 4, 27, 172]
abbrev dktX7_greater_0 : List UInt8 := dkwX7_greater_0 ++ []
theorem dksX7_greater_0 : cX7_greater.data.toList.drop 0 = dktX7_greater_0 := by decide +kernel
theorem dX7_greater_0 : decode cX7_greater 0 = .ok (.iload_n 0, 1) := dk_26 (dk_at dksX7_greater_0 0 rfl rfl)
theorem dX7_greater_1 : decode cX7_greater 1 = .ok (.iload_n 1, 1) := dk_27 (dk_at dksX7_greater_0 1 rfl rfl)
theorem dX7_greater_2 : decode cX7_greater 2 = .ok (.if_icmp .le 7, 3) := dk_164 0 7 (dk_at dksX7_greater_0 2 rfl rfl)
theorem dX7_greater_5 : decode cX7_greater 5 = .ok (.iload_n 0, 1) := dk_26 (dk_at dksX7_greater_0 5 rfl rfl)
theorem dX7_greater_6 : decode cX7_greater 6 = .ok (.goto 4, 3) := dk_167 0 4 (dk_at dksX7_greater_0 6 rfl rfl)
theorem dX7_greater_9 : decode cX7_greater 9 = .ok (.iload_n 1, 1) := dk_27 (dk_at dksX7_greater_0 9 rfl rfl)
theorem dX7_greater_10 : decode cX7_greater 10 = .ok (.ireturn, 1) := dk_172 (dk_at dksX7_greater_0 10 rfl rfl)
abbrev cX7_isValidNow : ByteArray := prog_20_method_17_code
def yX7_isValidNow : MethodName := ⟨RX7, "isValidNow", "(I)Z"⟩
def dkwX7_isValidNow_0 : List UInt8 := [42, 27, 42, 4, 182, 0, 60, 182, 0, 64, 172]
abbrev dktX7_isValidNow_0 : List UInt8 := dkwX7_isValidNow_0 ++ []
theorem dksX7_isValidNow_0 : cX7_isValidNow.data.toList.drop 0 = dktX7_isValidNow_0 := by decide +kernel
theorem dX7_isValidNow_0 : decode cX7_isValidNow 0 = .ok (.aload_n 0, 1) := dk_42 (dk_at dksX7_isValidNow_0 0 rfl rfl)
theorem dX7_isValidNow_1 : decode cX7_isValidNow 1 = .ok (.iload_n 1, 1) := dk_27 (dk_at dksX7_isValidNow_0 1 rfl rfl)
theorem dX7_isValidNow_2 : decode cX7_isValidNow 2 = .ok (.aload_n 0, 1) := dk_42 (dk_at dksX7_isValidNow_0 2 rfl rfl)
theorem dX7_isValidNow_3 : decode cX7_isValidNow 3 = .ok (.iconst 1, 1) := dk_4 (dk_at dksX7_isValidNow_0 3 rfl rfl)
theorem dX7_isValidNow_4 : decode cX7_isValidNow 4 = .ok (.invokevirtual 60, 3) := dk_182 0 60 (dk_at dksX7_isValidNow_0 4 rfl rfl)
theorem dX7_isValidNow_7 : decode cX7_isValidNow 7 = .ok (.invokevirtual 64, 3) := dk_182 0 64 (dk_at dksX7_isValidNow_0 7 rfl rfl)
theorem dX7_isValidNow_10 : decode cX7_isValidNow 10 = .ok (.ireturn, 1) := dk_172 (dk_at dksX7_isValidNow_0 10 rfl rfl)
abbrev cX7_priceOf : ByteArray := prog_20_method_109_code
def yX7_priceOf : MethodName := ⟨RX7, "priceOf", "(I)I"⟩
def dkwX7_priceOf_1 : List UInt8 := [167, 0, 15, 3, 42, 27, 6, 182, 0, 52, 28, 100, 184, 1, 13, 172]
abbrev dktX7_priceOf_1 : List UInt8 := dkwX7_priceOf_1 ++ []
def dkwX7_priceOf_0 : List UInt8 := [42, 27, 16, 10, 182, 0, 52, 153, 0, 5, 3, 172, 42, 27, 182, 1, 91, 61, 28, 2, 160, 0, 7, 3]
abbrev dktX7_priceOf_0 : List UInt8 := dkwX7_priceOf_0 ++ dktX7_priceOf_1
theorem dksX7_priceOf_0 : cX7_priceOf.data.toList.drop 0 = dktX7_priceOf_0 := by decide +kernel
theorem dksX7_priceOf_1 : cX7_priceOf.data.toList.drop 24 = dktX7_priceOf_1 := dk_seg dksX7_priceOf_0 24 rfl rfl
theorem dX7_priceOf_0 : decode cX7_priceOf 0 = .ok (.aload_n 0, 1) := dk_42 (dk_at dksX7_priceOf_0 0 rfl rfl)
theorem dX7_priceOf_1 : decode cX7_priceOf 1 = .ok (.iload_n 1, 1) := dk_27 (dk_at dksX7_priceOf_0 1 rfl rfl)
theorem dX7_priceOf_2 : decode cX7_priceOf 2 = .ok (.bipush 10, 2) := dk_16 10 (dk_at dksX7_priceOf_0 2 rfl rfl)
theorem dX7_priceOf_4 : decode cX7_priceOf 4 = .ok (.invokevirtual 52, 3) := dk_182 0 52 (dk_at dksX7_priceOf_0 4 rfl rfl)
theorem dX7_priceOf_7 : decode cX7_priceOf 7 = .ok (.ifCond .eq 5, 3) := dk_153 0 5 (dk_at dksX7_priceOf_0 7 rfl rfl)
theorem dX7_priceOf_10 : decode cX7_priceOf 10 = .ok (.iconst 0, 1) := dk_3 (dk_at dksX7_priceOf_0 10 rfl rfl)
theorem dX7_priceOf_11 : decode cX7_priceOf 11 = .ok (.ireturn, 1) := dk_172 (dk_at dksX7_priceOf_0 11 rfl rfl)
theorem dX7_priceOf_12 : decode cX7_priceOf 12 = .ok (.aload_n 0, 1) := dk_42 (dk_at dksX7_priceOf_0 12 rfl rfl)
theorem dX7_priceOf_13 : decode cX7_priceOf 13 = .ok (.iload_n 1, 1) := dk_27 (dk_at dksX7_priceOf_0 13 rfl rfl)
theorem dX7_priceOf_14 : decode cX7_priceOf 14 = .ok (.invokevirtual 347, 3) := dk_182 1 91 (dk_at dksX7_priceOf_0 14 rfl rfl)
theorem dX7_priceOf_17 : decode cX7_priceOf 17 = .ok (.istore_n 2, 1) := dk_61 (dk_at dksX7_priceOf_0 17 rfl rfl)
theorem dX7_priceOf_18 : decode cX7_priceOf 18 = .ok (.iload_n 2, 1) := dk_28 (dk_at dksX7_priceOf_0 18 rfl rfl)
theorem dX7_priceOf_19 : decode cX7_priceOf 19 = .ok (.iconst (-1), 1) := dk_2 (dk_at dksX7_priceOf_0 19 rfl rfl)
theorem dX7_priceOf_20 : decode cX7_priceOf 20 = .ok (.if_icmp .ne 7, 3) := dk_160 0 7 (dk_at dksX7_priceOf_0 20 rfl rfl)
theorem dX7_priceOf_23 : decode cX7_priceOf 23 = .ok (.iconst 0, 1) := dk_3 (dk_at dksX7_priceOf_0 23 rfl rfl)
theorem dX7_priceOf_24 : decode cX7_priceOf 24 = .ok (.goto 15, 3) := dk_167 0 15 (dk_at dksX7_priceOf_1 0 rfl rfl)
theorem dX7_priceOf_27 : decode cX7_priceOf 27 = .ok (.iconst 0, 1) := dk_3 (dk_at dksX7_priceOf_1 3 rfl rfl)
theorem dX7_priceOf_28 : decode cX7_priceOf 28 = .ok (.aload_n 0, 1) := dk_42 (dk_at dksX7_priceOf_1 4 rfl rfl)
theorem dX7_priceOf_29 : decode cX7_priceOf 29 = .ok (.iload_n 1, 1) := dk_27 (dk_at dksX7_priceOf_1 5 rfl rfl)
theorem dX7_priceOf_30 : decode cX7_priceOf 30 = .ok (.iconst 3, 1) := dk_6 (dk_at dksX7_priceOf_1 6 rfl rfl)
theorem dX7_priceOf_31 : decode cX7_priceOf 31 = .ok (.invokevirtual 52, 3) := dk_182 0 52 (dk_at dksX7_priceOf_1 7 rfl rfl)
theorem dX7_priceOf_34 : decode cX7_priceOf 34 = .ok (.iload_n 2, 1) := dk_28 (dk_at dksX7_priceOf_1 10 rfl rfl)
theorem dX7_priceOf_35 : decode cX7_priceOf 35 = .ok (.isub, 1) := dk_100 (dk_at dksX7_priceOf_1 11 rfl rfl)
theorem dX7_priceOf_36 : decode cX7_priceOf 36 = .ok (.invokestatic 269, 3) := dk_184 1 13 (dk_at dksX7_priceOf_1 12 rfl rfl)
theorem dX7_priceOf_39 : decode cX7_priceOf 39 = .ok (.ireturn, 1) := dk_172 (dk_at dksX7_priceOf_1 15 rfl rfl)
abbrev cX7_whenOf : ByteArray := prog_20_method_81_code
def yX7_whenOf : MethodName := ⟨RX7, "whenOf", "(I)I"⟩
def dkwX7_whenOf_0 : List UInt8 := [42, 27, 16, 9, 2, 182, 1, 87, 172]
abbrev dktX7_whenOf_0 : List UInt8 := dkwX7_whenOf_0 ++ []
theorem dksX7_whenOf_0 : cX7_whenOf.data.toList.drop 0 = dktX7_whenOf_0 := by decide +kernel
theorem dX7_whenOf_0 : decode cX7_whenOf 0 = .ok (.aload_n 0, 1) := dk_42 (dk_at dksX7_whenOf_0 0 rfl rfl)
theorem dX7_whenOf_1 : decode cX7_whenOf 1 = .ok (.iload_n 1, 1) := dk_27 (dk_at dksX7_whenOf_0 1 rfl rfl)
theorem dX7_whenOf_2 : decode cX7_whenOf 2 = .ok (.bipush 9, 2) := dk_16 9 (dk_at dksX7_whenOf_0 2 rfl rfl)
theorem dX7_whenOf_4 : decode cX7_whenOf 4 = .ok (.iconst (-1), 1) := dk_2 (dk_at dksX7_whenOf_0 4 rfl rfl)
theorem dX7_whenOf_5 : decode cX7_whenOf 5 = .ok (.invokevirtual 343, 3) := dk_182 1 87 (dk_at dksX7_whenOf_0 5 rfl rfl)
theorem dX7_whenOf_8 : decode cX7_whenOf 8 = .ok (.ireturn, 1) := dk_172 (dk_at dksX7_whenOf_0 8 rfl rfl)
abbrev cX7_firstBy : ByteArray := prog_20_method_80_code
def yX7_firstBy : MethodName := ⟨RX7, "firstBy", "(III)I"⟩
def dkwX7_firstBy_2 : List UInt8 := [167, 255, 219, 42, 182, 0, 209, 21, 4, 172]
abbrev dktX7_firstBy_2 : List UInt8 := dkwX7_firstBy_2 ++ []
def dkwX7_firstBy_1 : List UInt8 := [27, 28, 182, 0, 52, 29, 159, 0, 7, 21, 5, 54, 4, 42, 3, 182, 1, 44, 54, 6, 132, 5, 1]
abbrev dktX7_firstBy_1 : List UInt8 := dkwX7_firstBy_1 ++ dktX7_firstBy_2
def dkwX7_firstBy_0 : List UInt8 := [42, 182, 0, 199, 2, 54, 4, 3, 54, 5, 21, 5, 16, 80, 163, 0, 36, 21, 4, 2, 160, 0, 30, 42]
abbrev dktX7_firstBy_0 : List UInt8 := dkwX7_firstBy_0 ++ dktX7_firstBy_1
theorem dksX7_firstBy_0 : cX7_firstBy.data.toList.drop 0 = dktX7_firstBy_0 := by decide +kernel
theorem dksX7_firstBy_1 : cX7_firstBy.data.toList.drop 24 = dktX7_firstBy_1 := dk_seg dksX7_firstBy_0 24 rfl rfl
theorem dksX7_firstBy_2 : cX7_firstBy.data.toList.drop 47 = dktX7_firstBy_2 := dk_seg dksX7_firstBy_1 23 rfl rfl
theorem dX7_firstBy_0 : decode cX7_firstBy 0 = .ok (.aload_n 0, 1) := dk_42 (dk_at dksX7_firstBy_0 0 rfl rfl)
theorem dX7_firstBy_1 : decode cX7_firstBy 1 = .ok (.invokevirtual 199, 3) := dk_182 0 199 (dk_at dksX7_firstBy_0 1 rfl rfl)
theorem dX7_firstBy_4 : decode cX7_firstBy 4 = .ok (.iconst (-1), 1) := dk_2 (dk_at dksX7_firstBy_0 4 rfl rfl)
theorem dX7_firstBy_5 : decode cX7_firstBy 5 = .ok (.istore 4, 2) := dk_54 4 (dk_at dksX7_firstBy_0 5 rfl rfl)
theorem dX7_firstBy_7 : decode cX7_firstBy 7 = .ok (.iconst 0, 1) := dk_3 (dk_at dksX7_firstBy_0 7 rfl rfl)
theorem dX7_firstBy_8 : decode cX7_firstBy 8 = .ok (.istore 5, 2) := dk_54 5 (dk_at dksX7_firstBy_0 8 rfl rfl)
theorem dX7_firstBy_10 : decode cX7_firstBy 10 = .ok (.iload 5, 2) := dk_21 5 (dk_at dksX7_firstBy_0 10 rfl rfl)
theorem dX7_firstBy_12 : decode cX7_firstBy 12 = .ok (.bipush 80, 2) := dk_16 80 (dk_at dksX7_firstBy_0 12 rfl rfl)
theorem dX7_firstBy_14 : decode cX7_firstBy 14 = .ok (.if_icmp .gt 36, 3) := dk_163 0 36 (dk_at dksX7_firstBy_0 14 rfl rfl)
theorem dX7_firstBy_17 : decode cX7_firstBy 17 = .ok (.iload 4, 2) := dk_21 4 (dk_at dksX7_firstBy_0 17 rfl rfl)
theorem dX7_firstBy_19 : decode cX7_firstBy 19 = .ok (.iconst (-1), 1) := dk_2 (dk_at dksX7_firstBy_0 19 rfl rfl)
theorem dX7_firstBy_20 : decode cX7_firstBy 20 = .ok (.if_icmp .ne 30, 3) := dk_160 0 30 (dk_at dksX7_firstBy_0 20 rfl rfl)
theorem dX7_firstBy_23 : decode cX7_firstBy 23 = .ok (.aload_n 0, 1) := dk_42 (dk_at dksX7_firstBy_0 23 rfl rfl)
theorem dX7_firstBy_24 : decode cX7_firstBy 24 = .ok (.iload_n 1, 1) := dk_27 (dk_at dksX7_firstBy_1 0 rfl rfl)
theorem dX7_firstBy_25 : decode cX7_firstBy 25 = .ok (.iload_n 2, 1) := dk_28 (dk_at dksX7_firstBy_1 1 rfl rfl)
theorem dX7_firstBy_26 : decode cX7_firstBy 26 = .ok (.invokevirtual 52, 3) := dk_182 0 52 (dk_at dksX7_firstBy_1 2 rfl rfl)
theorem dX7_firstBy_29 : decode cX7_firstBy 29 = .ok (.iload_n 3, 1) := dk_29 (dk_at dksX7_firstBy_1 5 rfl rfl)
theorem dX7_firstBy_30 : decode cX7_firstBy 30 = .ok (.if_icmp .eq 7, 3) := dk_159 0 7 (dk_at dksX7_firstBy_1 6 rfl rfl)
theorem dX7_firstBy_33 : decode cX7_firstBy 33 = .ok (.iload 5, 2) := dk_21 5 (dk_at dksX7_firstBy_1 9 rfl rfl)
theorem dX7_firstBy_35 : decode cX7_firstBy 35 = .ok (.istore 4, 2) := dk_54 4 (dk_at dksX7_firstBy_1 11 rfl rfl)
theorem dX7_firstBy_37 : decode cX7_firstBy 37 = .ok (.aload_n 0, 1) := dk_42 (dk_at dksX7_firstBy_1 13 rfl rfl)
theorem dX7_firstBy_38 : decode cX7_firstBy 38 = .ok (.iconst 0, 1) := dk_3 (dk_at dksX7_firstBy_1 14 rfl rfl)
theorem dX7_firstBy_39 : decode cX7_firstBy 39 = .ok (.invokevirtual 300, 3) := dk_182 1 44 (dk_at dksX7_firstBy_1 15 rfl rfl)
theorem dX7_firstBy_42 : decode cX7_firstBy 42 = .ok (.istore 6, 2) := dk_54 6 (dk_at dksX7_firstBy_1 18 rfl rfl)
theorem dX7_firstBy_44 : decode cX7_firstBy 44 = .ok (.iinc 5 1, 3) := dk_132 5 1 (dk_at dksX7_firstBy_1 20 rfl rfl)
theorem dX7_firstBy_47 : decode cX7_firstBy 47 = .ok (.goto (-37), 3) := dk_167 255 219 (dk_at dksX7_firstBy_2 0 rfl rfl)
theorem dX7_firstBy_50 : decode cX7_firstBy 50 = .ok (.aload_n 0, 1) := dk_42 (dk_at dksX7_firstBy_2 3 rfl rfl)
theorem dX7_firstBy_51 : decode cX7_firstBy 51 = .ok (.invokevirtual 209, 3) := dk_182 0 209 (dk_at dksX7_firstBy_2 4 rfl rfl)
theorem dX7_firstBy_54 : decode cX7_firstBy 54 = .ok (.iload 4, 2) := dk_21 4 (dk_at dksX7_firstBy_2 7 rfl rfl)
theorem dX7_firstBy_56 : decode cX7_firstBy 56 = .ok (.ireturn, 1) := dk_172 (dk_at dksX7_firstBy_2 9 rfl rfl)
abbrev cX7_passes : ByteArray := prog_20_method_58_code
def yX7_passes : MethodName := ⟨RX7, "passes", "(Z)I"⟩
def dkwX7_passes_14 : List UInt8 := [180, 0, 7, 16, 6, 46, 4, 96, 184, 1, 20, 79, 21, 4, 172]
abbrev dktX7_passes_14 : List UInt8 := dkwX7_passes_14 ++ []
def dkwX7_passes_13 : List UInt8 := [21, 5, 182, 1, 41, 132, 4, 1, 132, 5, 1, 167, 255, 183, 42, 180, 0, 7, 16, 6, 17, 39, 15, 42]
abbrev dktX7_passes_13 : List UInt8 := dkwX7_passes_13 ++ dktX7_passes_14
def dkwX7_passes_12 : List UInt8 := [46, 42, 21, 5, 16, 9, 182, 0, 52, 100, 42, 21, 5, 7, 182, 0, 52, 162, 0, 6, 167, 0, 12, 42]
abbrev dktX7_passes_12 : List UInt8 := dkwX7_passes_12 ++ dktX7_passes_13
def dkwX7_passes_11 : List UInt8 := [182, 1, 38, 153, 0, 53, 42, 21, 5, 16, 11, 182, 0, 52, 4, 159, 0, 41, 42, 180, 0, 7, 16, 6]
abbrev dktX7_passes_11 : List UInt8 := dkwX7_passes_11 ++ dktX7_passes_12
def dkwX7_passes_10 : List UInt8 := [167, 255, 161, 3, 54, 4, 3, 54, 5, 21, 5, 42, 180, 0, 7, 8, 46, 162, 0, 68, 42, 21, 5]
abbrev dktX7_passes_10 : List UInt8 := dkwX7_passes_10 ++ dktX7_passes_11
def dkwX7_passes_9 : List UInt8 := [167, 0, 20, 42, 21, 4, 16, 10, 5, 182, 0, 147, 42, 21, 4, 4, 3, 182, 1, 23, 132, 4, 1]
abbrev dktX7_passes_9 : List UInt8 := dkwX7_passes_9 ++ dktX7_passes_10
def dkwX7_passes_8 : List UInt8 := [153, 0, 44, 42, 180, 0, 7, 16, 6, 46, 42, 21, 4, 16, 9, 182, 0, 52, 100, 21, 5, 162, 0, 6]
abbrev dktX7_passes_8 : List UInt8 := dkwX7_passes_8 ++ dktX7_passes_9
def dkwX7_passes_7 : List UInt8 := [21, 4, 184, 0, 56, 154, 0, 61, 42, 21, 4, 16, 10, 182, 0, 52, 4, 160, 0, 49, 21, 5]
abbrev dktX7_passes_7 : List UInt8 := dkwX7_passes_7 ++ dktX7_passes_8
def dkwX7_passes_6 : List UInt8 := [180, 0, 7, 8, 46, 162, 0, 90, 42, 42, 21, 4, 3, 182, 0, 52, 4, 182, 0, 67, 54, 5, 29]
abbrev dktX7_passes_6 : List UInt8 := dkwX7_passes_6 ++ dktX7_passes_7
def dkwX7_passes_5 : List UInt8 := [182, 0, 67, 161, 0, 9, 42, 21, 4, 182, 1, 35, 132, 4, 1, 167, 255, 166, 3, 54, 4, 21, 4, 42]
abbrev dktX7_passes_5 : List UInt8 := dkwX7_passes_5 ++ dktX7_passes_6
def dkwX7_passes_4 : List UInt8 := [184, 1, 20, 182, 0, 147, 42, 21, 4, 16, 8, 182, 0, 52, 42, 42, 21, 4, 3, 182, 0, 52, 3]
abbrev dktX7_passes_4 : List UInt8 := dkwX7_passes_4 ++ dktX7_passes_5
def dkwX7_passes_3 : List UInt8 := [21, 4, 16, 8, 17, 3, 231, 42, 21, 4, 16, 8, 182, 0, 52, 42, 180, 1, 4, 96, 28, 96]
abbrev dktX7_passes_3 : List UInt8 := dkwX7_passes_3 ++ dktX7_passes_4
def dkwX7_passes_2 : List UInt8 := [8, 46, 162, 0, 85, 29, 21, 4, 184, 0, 56, 154, 0, 6, 167, 0, 67, 42, 21, 4, 182, 1, 16, 42]
abbrev dktX7_passes_2 : List UInt8 := dkwX7_passes_2 ++ dktX7_passes_3
def dkwX7_passes_1 : List UInt8 := [3, 167, 0, 7, 42, 180, 1, 32, 61, 42, 3, 182, 0, 60, 62, 3, 54, 4, 21, 4, 42, 180, 0, 7]
abbrev dktX7_passes_1 : List UInt8 := dkwX7_passes_1 ++ dktX7_passes_2
def dkwX7_passes_0 : List UInt8 := [27, 153, 0, 27, 42, 16, 100, 182, 1, 29, 42, 180, 0, 7, 16, 8, 46, 162, 0, 7, 4, 167, 0, 11]
abbrev dktX7_passes_0 : List UInt8 := dkwX7_passes_0 ++ dktX7_passes_1
theorem dksX7_passes_0 : cX7_passes.data.toList.drop 0 = dktX7_passes_0 := by decide +kernel
theorem dksX7_passes_1 : cX7_passes.data.toList.drop 24 = dktX7_passes_1 := dk_seg dksX7_passes_0 24 rfl rfl
theorem dksX7_passes_2 : cX7_passes.data.toList.drop 48 = dktX7_passes_2 := dk_seg dksX7_passes_1 24 rfl rfl
theorem dksX7_passes_3 : cX7_passes.data.toList.drop 72 = dktX7_passes_3 := dk_seg dksX7_passes_2 24 rfl rfl
theorem dksX7_passes_4 : cX7_passes.data.toList.drop 94 = dktX7_passes_4 := dk_seg dksX7_passes_3 22 rfl rfl
theorem dksX7_passes_5 : cX7_passes.data.toList.drop 117 = dktX7_passes_5 := dk_seg dksX7_passes_4 23 rfl rfl
theorem dksX7_passes_6 : cX7_passes.data.toList.drop 141 = dktX7_passes_6 := dk_seg dksX7_passes_5 24 rfl rfl
theorem dksX7_passes_7 : cX7_passes.data.toList.drop 164 = dktX7_passes_7 := dk_seg dksX7_passes_6 23 rfl rfl
theorem dksX7_passes_8 : cX7_passes.data.toList.drop 186 = dktX7_passes_8 := dk_seg dksX7_passes_7 22 rfl rfl
theorem dksX7_passes_9 : cX7_passes.data.toList.drop 210 = dktX7_passes_9 := dk_seg dksX7_passes_8 24 rfl rfl
theorem dksX7_passes_10 : cX7_passes.data.toList.drop 233 = dktX7_passes_10 := dk_seg dksX7_passes_9 23 rfl rfl
theorem dksX7_passes_11 : cX7_passes.data.toList.drop 256 = dktX7_passes_11 := dk_seg dksX7_passes_10 23 rfl rfl
theorem dksX7_passes_12 : cX7_passes.data.toList.drop 280 = dktX7_passes_12 := dk_seg dksX7_passes_11 24 rfl rfl
theorem dksX7_passes_13 : cX7_passes.data.toList.drop 304 = dktX7_passes_13 := dk_seg dksX7_passes_12 24 rfl rfl
theorem dksX7_passes_14 : cX7_passes.data.toList.drop 328 = dktX7_passes_14 := dk_seg dksX7_passes_13 24 rfl rfl
theorem dX7_passes_0 : decode cX7_passes 0 = .ok (.iload_n 1, 1) := dk_27 (dk_at dksX7_passes_0 0 rfl rfl)
theorem dX7_passes_1 : decode cX7_passes 1 = .ok (.ifCond .eq 27, 3) := dk_153 0 27 (dk_at dksX7_passes_0 1 rfl rfl)
theorem dX7_passes_4 : decode cX7_passes 4 = .ok (.aload_n 0, 1) := dk_42 (dk_at dksX7_passes_0 4 rfl rfl)
theorem dX7_passes_5 : decode cX7_passes 5 = .ok (.bipush 100, 2) := dk_16 100 (dk_at dksX7_passes_0 5 rfl rfl)
theorem dX7_passes_7 : decode cX7_passes 7 = .ok (.invokevirtual 285, 3) := dk_182 1 29 (dk_at dksX7_passes_0 7 rfl rfl)
theorem dX7_passes_10 : decode cX7_passes 10 = .ok (.aload_n 0, 1) := dk_42 (dk_at dksX7_passes_0 10 rfl rfl)
theorem dX7_passes_11 : decode cX7_passes 11 = .ok (.getfield 7, 3) := dk_180 0 7 (dk_at dksX7_passes_0 11 rfl rfl)
theorem dX7_passes_14 : decode cX7_passes 14 = .ok (.bipush 8, 2) := dk_16 8 (dk_at dksX7_passes_0 14 rfl rfl)
theorem dX7_passes_16 : decode cX7_passes 16 = .ok (.iaload, 1) := dk_46 (dk_at dksX7_passes_0 16 rfl rfl)
theorem dX7_passes_17 : decode cX7_passes 17 = .ok (.if_icmp .ge 7, 3) := dk_162 0 7 (dk_at dksX7_passes_0 17 rfl rfl)
theorem dX7_passes_20 : decode cX7_passes 20 = .ok (.iconst 1, 1) := dk_4 (dk_at dksX7_passes_0 20 rfl rfl)
theorem dX7_passes_21 : decode cX7_passes 21 = .ok (.goto 11, 3) := dk_167 0 11 (dk_at dksX7_passes_0 21 rfl rfl)
theorem dX7_passes_24 : decode cX7_passes 24 = .ok (.iconst 0, 1) := dk_3 (dk_at dksX7_passes_1 0 rfl rfl)
theorem dX7_passes_25 : decode cX7_passes 25 = .ok (.goto 7, 3) := dk_167 0 7 (dk_at dksX7_passes_1 1 rfl rfl)
theorem dX7_passes_28 : decode cX7_passes 28 = .ok (.aload_n 0, 1) := dk_42 (dk_at dksX7_passes_1 4 rfl rfl)
theorem dX7_passes_29 : decode cX7_passes 29 = .ok (.getfield 288, 3) := dk_180 1 32 (dk_at dksX7_passes_1 5 rfl rfl)
theorem dX7_passes_32 : decode cX7_passes 32 = .ok (.istore_n 2, 1) := dk_61 (dk_at dksX7_passes_1 8 rfl rfl)
theorem dX7_passes_33 : decode cX7_passes 33 = .ok (.aload_n 0, 1) := dk_42 (dk_at dksX7_passes_1 9 rfl rfl)
theorem dX7_passes_34 : decode cX7_passes 34 = .ok (.iconst 0, 1) := dk_3 (dk_at dksX7_passes_1 10 rfl rfl)
theorem dX7_passes_35 : decode cX7_passes 35 = .ok (.invokevirtual 60, 3) := dk_182 0 60 (dk_at dksX7_passes_1 11 rfl rfl)
theorem dX7_passes_38 : decode cX7_passes 38 = .ok (.istore_n 3, 1) := dk_62 (dk_at dksX7_passes_1 14 rfl rfl)
theorem dX7_passes_39 : decode cX7_passes 39 = .ok (.iconst 0, 1) := dk_3 (dk_at dksX7_passes_1 15 rfl rfl)
theorem dX7_passes_40 : decode cX7_passes 40 = .ok (.istore 4, 2) := dk_54 4 (dk_at dksX7_passes_1 16 rfl rfl)
theorem dX7_passes_42 : decode cX7_passes 42 = .ok (.iload 4, 2) := dk_21 4 (dk_at dksX7_passes_1 18 rfl rfl)
theorem dX7_passes_44 : decode cX7_passes 44 = .ok (.aload_n 0, 1) := dk_42 (dk_at dksX7_passes_1 20 rfl rfl)
theorem dX7_passes_45 : decode cX7_passes 45 = .ok (.getfield 7, 3) := dk_180 0 7 (dk_at dksX7_passes_1 21 rfl rfl)
theorem dX7_passes_48 : decode cX7_passes 48 = .ok (.iconst 5, 1) := dk_8 (dk_at dksX7_passes_2 0 rfl rfl)
theorem dX7_passes_49 : decode cX7_passes 49 = .ok (.iaload, 1) := dk_46 (dk_at dksX7_passes_2 1 rfl rfl)
theorem dX7_passes_50 : decode cX7_passes 50 = .ok (.if_icmp .ge 85, 3) := dk_162 0 85 (dk_at dksX7_passes_2 2 rfl rfl)
theorem dX7_passes_53 : decode cX7_passes 53 = .ok (.iload_n 3, 1) := dk_29 (dk_at dksX7_passes_2 5 rfl rfl)
theorem dX7_passes_54 : decode cX7_passes 54 = .ok (.iload 4, 2) := dk_21 4 (dk_at dksX7_passes_2 6 rfl rfl)
theorem dX7_passes_56 : decode cX7_passes 56 = .ok (.invokestatic 56, 3) := dk_184 0 56 (dk_at dksX7_passes_2 8 rfl rfl)
theorem dX7_passes_59 : decode cX7_passes 59 = .ok (.ifCond .ne 6, 3) := dk_154 0 6 (dk_at dksX7_passes_2 11 rfl rfl)
theorem dX7_passes_62 : decode cX7_passes 62 = .ok (.goto 67, 3) := dk_167 0 67 (dk_at dksX7_passes_2 14 rfl rfl)
theorem dX7_passes_65 : decode cX7_passes 65 = .ok (.aload_n 0, 1) := dk_42 (dk_at dksX7_passes_2 17 rfl rfl)
theorem dX7_passes_66 : decode cX7_passes 66 = .ok (.iload 4, 2) := dk_21 4 (dk_at dksX7_passes_2 18 rfl rfl)
theorem dX7_passes_68 : decode cX7_passes 68 = .ok (.invokevirtual 272, 3) := dk_182 1 16 (dk_at dksX7_passes_2 20 rfl rfl)
theorem dX7_passes_71 : decode cX7_passes 71 = .ok (.aload_n 0, 1) := dk_42 (dk_at dksX7_passes_2 23 rfl rfl)
theorem dX7_passes_72 : decode cX7_passes 72 = .ok (.iload 4, 2) := dk_21 4 (dk_at dksX7_passes_3 0 rfl rfl)
theorem dX7_passes_74 : decode cX7_passes 74 = .ok (.bipush 8, 2) := dk_16 8 (dk_at dksX7_passes_3 2 rfl rfl)
theorem dX7_passes_76 : decode cX7_passes 76 = .ok (.sipush 999, 3) := dk_17 3 231 (dk_at dksX7_passes_3 4 rfl rfl)
theorem dX7_passes_79 : decode cX7_passes 79 = .ok (.aload_n 0, 1) := dk_42 (dk_at dksX7_passes_3 7 rfl rfl)
theorem dX7_passes_80 : decode cX7_passes 80 = .ok (.iload 4, 2) := dk_21 4 (dk_at dksX7_passes_3 8 rfl rfl)
theorem dX7_passes_82 : decode cX7_passes 82 = .ok (.bipush 8, 2) := dk_16 8 (dk_at dksX7_passes_3 10 rfl rfl)
theorem dX7_passes_84 : decode cX7_passes 84 = .ok (.invokevirtual 52, 3) := dk_182 0 52 (dk_at dksX7_passes_3 12 rfl rfl)
theorem dX7_passes_87 : decode cX7_passes 87 = .ok (.aload_n 0, 1) := dk_42 (dk_at dksX7_passes_3 15 rfl rfl)
theorem dX7_passes_88 : decode cX7_passes 88 = .ok (.getfield 260, 3) := dk_180 1 4 (dk_at dksX7_passes_3 16 rfl rfl)
theorem dX7_passes_91 : decode cX7_passes 91 = .ok (.iadd, 1) := dk_96 (dk_at dksX7_passes_3 19 rfl rfl)
theorem dX7_passes_92 : decode cX7_passes 92 = .ok (.iload_n 2, 1) := dk_28 (dk_at dksX7_passes_3 20 rfl rfl)
theorem dX7_passes_93 : decode cX7_passes 93 = .ok (.iadd, 1) := dk_96 (dk_at dksX7_passes_3 21 rfl rfl)
theorem dX7_passes_94 : decode cX7_passes 94 = .ok (.invokestatic 276, 3) := dk_184 1 20 (dk_at dksX7_passes_4 0 rfl rfl)
theorem dX7_passes_97 : decode cX7_passes 97 = .ok (.invokevirtual 147, 3) := dk_182 0 147 (dk_at dksX7_passes_4 3 rfl rfl)
theorem dX7_passes_100 : decode cX7_passes 100 = .ok (.aload_n 0, 1) := dk_42 (dk_at dksX7_passes_4 6 rfl rfl)
theorem dX7_passes_101 : decode cX7_passes 101 = .ok (.iload 4, 2) := dk_21 4 (dk_at dksX7_passes_4 7 rfl rfl)
theorem dX7_passes_103 : decode cX7_passes 103 = .ok (.bipush 8, 2) := dk_16 8 (dk_at dksX7_passes_4 9 rfl rfl)
theorem dX7_passes_105 : decode cX7_passes 105 = .ok (.invokevirtual 52, 3) := dk_182 0 52 (dk_at dksX7_passes_4 11 rfl rfl)
theorem dX7_passes_108 : decode cX7_passes 108 = .ok (.aload_n 0, 1) := dk_42 (dk_at dksX7_passes_4 14 rfl rfl)
theorem dX7_passes_109 : decode cX7_passes 109 = .ok (.aload_n 0, 1) := dk_42 (dk_at dksX7_passes_4 15 rfl rfl)
theorem dX7_passes_110 : decode cX7_passes 110 = .ok (.iload 4, 2) := dk_21 4 (dk_at dksX7_passes_4 16 rfl rfl)
theorem dX7_passes_112 : decode cX7_passes 112 = .ok (.iconst 0, 1) := dk_3 (dk_at dksX7_passes_4 18 rfl rfl)
theorem dX7_passes_113 : decode cX7_passes 113 = .ok (.invokevirtual 52, 3) := dk_182 0 52 (dk_at dksX7_passes_4 19 rfl rfl)
theorem dX7_passes_116 : decode cX7_passes 116 = .ok (.iconst 0, 1) := dk_3 (dk_at dksX7_passes_4 22 rfl rfl)
theorem dX7_passes_117 : decode cX7_passes 117 = .ok (.invokevirtual 67, 3) := dk_182 0 67 (dk_at dksX7_passes_5 0 rfl rfl)
theorem dX7_passes_120 : decode cX7_passes 120 = .ok (.if_icmp .lt 9, 3) := dk_161 0 9 (dk_at dksX7_passes_5 3 rfl rfl)
theorem dX7_passes_123 : decode cX7_passes 123 = .ok (.aload_n 0, 1) := dk_42 (dk_at dksX7_passes_5 6 rfl rfl)
theorem dX7_passes_124 : decode cX7_passes 124 = .ok (.iload 4, 2) := dk_21 4 (dk_at dksX7_passes_5 7 rfl rfl)
theorem dX7_passes_126 : decode cX7_passes 126 = .ok (.invokevirtual 291, 3) := dk_182 1 35 (dk_at dksX7_passes_5 9 rfl rfl)
theorem dX7_passes_129 : decode cX7_passes 129 = .ok (.iinc 4 1, 3) := dk_132 4 1 (dk_at dksX7_passes_5 12 rfl rfl)
theorem dX7_passes_132 : decode cX7_passes 132 = .ok (.goto (-90), 3) := dk_167 255 166 (dk_at dksX7_passes_5 15 rfl rfl)
theorem dX7_passes_135 : decode cX7_passes 135 = .ok (.iconst 0, 1) := dk_3 (dk_at dksX7_passes_5 18 rfl rfl)
theorem dX7_passes_136 : decode cX7_passes 136 = .ok (.istore 4, 2) := dk_54 4 (dk_at dksX7_passes_5 19 rfl rfl)
theorem dX7_passes_138 : decode cX7_passes 138 = .ok (.iload 4, 2) := dk_21 4 (dk_at dksX7_passes_5 21 rfl rfl)
theorem dX7_passes_140 : decode cX7_passes 140 = .ok (.aload_n 0, 1) := dk_42 (dk_at dksX7_passes_5 23 rfl rfl)
theorem dX7_passes_141 : decode cX7_passes 141 = .ok (.getfield 7, 3) := dk_180 0 7 (dk_at dksX7_passes_6 0 rfl rfl)
theorem dX7_passes_144 : decode cX7_passes 144 = .ok (.iconst 5, 1) := dk_8 (dk_at dksX7_passes_6 3 rfl rfl)
theorem dX7_passes_145 : decode cX7_passes 145 = .ok (.iaload, 1) := dk_46 (dk_at dksX7_passes_6 4 rfl rfl)
theorem dX7_passes_146 : decode cX7_passes 146 = .ok (.if_icmp .ge 90, 3) := dk_162 0 90 (dk_at dksX7_passes_6 5 rfl rfl)
theorem dX7_passes_149 : decode cX7_passes 149 = .ok (.aload_n 0, 1) := dk_42 (dk_at dksX7_passes_6 8 rfl rfl)
theorem dX7_passes_150 : decode cX7_passes 150 = .ok (.aload_n 0, 1) := dk_42 (dk_at dksX7_passes_6 9 rfl rfl)
theorem dX7_passes_151 : decode cX7_passes 151 = .ok (.iload 4, 2) := dk_21 4 (dk_at dksX7_passes_6 10 rfl rfl)
theorem dX7_passes_153 : decode cX7_passes 153 = .ok (.iconst 0, 1) := dk_3 (dk_at dksX7_passes_6 12 rfl rfl)
theorem dX7_passes_154 : decode cX7_passes 154 = .ok (.invokevirtual 52, 3) := dk_182 0 52 (dk_at dksX7_passes_6 13 rfl rfl)
theorem dX7_passes_157 : decode cX7_passes 157 = .ok (.iconst 1, 1) := dk_4 (dk_at dksX7_passes_6 16 rfl rfl)
theorem dX7_passes_158 : decode cX7_passes 158 = .ok (.invokevirtual 67, 3) := dk_182 0 67 (dk_at dksX7_passes_6 17 rfl rfl)
theorem dX7_passes_161 : decode cX7_passes 161 = .ok (.istore 5, 2) := dk_54 5 (dk_at dksX7_passes_6 20 rfl rfl)
theorem dX7_passes_163 : decode cX7_passes 163 = .ok (.iload_n 3, 1) := dk_29 (dk_at dksX7_passes_6 22 rfl rfl)
theorem dX7_passes_164 : decode cX7_passes 164 = .ok (.iload 4, 2) := dk_21 4 (dk_at dksX7_passes_7 0 rfl rfl)
theorem dX7_passes_166 : decode cX7_passes 166 = .ok (.invokestatic 56, 3) := dk_184 0 56 (dk_at dksX7_passes_7 2 rfl rfl)
theorem dX7_passes_169 : decode cX7_passes 169 = .ok (.ifCond .ne 61, 3) := dk_154 0 61 (dk_at dksX7_passes_7 5 rfl rfl)
theorem dX7_passes_172 : decode cX7_passes 172 = .ok (.aload_n 0, 1) := dk_42 (dk_at dksX7_passes_7 8 rfl rfl)
theorem dX7_passes_173 : decode cX7_passes 173 = .ok (.iload 4, 2) := dk_21 4 (dk_at dksX7_passes_7 9 rfl rfl)
theorem dX7_passes_175 : decode cX7_passes 175 = .ok (.bipush 10, 2) := dk_16 10 (dk_at dksX7_passes_7 11 rfl rfl)
theorem dX7_passes_177 : decode cX7_passes 177 = .ok (.invokevirtual 52, 3) := dk_182 0 52 (dk_at dksX7_passes_7 13 rfl rfl)
theorem dX7_passes_180 : decode cX7_passes 180 = .ok (.iconst 1, 1) := dk_4 (dk_at dksX7_passes_7 16 rfl rfl)
theorem dX7_passes_181 : decode cX7_passes 181 = .ok (.if_icmp .ne 49, 3) := dk_160 0 49 (dk_at dksX7_passes_7 17 rfl rfl)
theorem dX7_passes_184 : decode cX7_passes 184 = .ok (.iload 5, 2) := dk_21 5 (dk_at dksX7_passes_7 20 rfl rfl)
theorem dX7_passes_186 : decode cX7_passes 186 = .ok (.ifCond .eq 44, 3) := dk_153 0 44 (dk_at dksX7_passes_8 0 rfl rfl)
theorem dX7_passes_189 : decode cX7_passes 189 = .ok (.aload_n 0, 1) := dk_42 (dk_at dksX7_passes_8 3 rfl rfl)
theorem dX7_passes_190 : decode cX7_passes 190 = .ok (.getfield 7, 3) := dk_180 0 7 (dk_at dksX7_passes_8 4 rfl rfl)
theorem dX7_passes_193 : decode cX7_passes 193 = .ok (.bipush 6, 2) := dk_16 6 (dk_at dksX7_passes_8 7 rfl rfl)
theorem dX7_passes_195 : decode cX7_passes 195 = .ok (.iaload, 1) := dk_46 (dk_at dksX7_passes_8 9 rfl rfl)
theorem dX7_passes_196 : decode cX7_passes 196 = .ok (.aload_n 0, 1) := dk_42 (dk_at dksX7_passes_8 10 rfl rfl)
theorem dX7_passes_197 : decode cX7_passes 197 = .ok (.iload 4, 2) := dk_21 4 (dk_at dksX7_passes_8 11 rfl rfl)
theorem dX7_passes_199 : decode cX7_passes 199 = .ok (.bipush 9, 2) := dk_16 9 (dk_at dksX7_passes_8 13 rfl rfl)
theorem dX7_passes_201 : decode cX7_passes 201 = .ok (.invokevirtual 52, 3) := dk_182 0 52 (dk_at dksX7_passes_8 15 rfl rfl)
theorem dX7_passes_204 : decode cX7_passes 204 = .ok (.isub, 1) := dk_100 (dk_at dksX7_passes_8 18 rfl rfl)
theorem dX7_passes_205 : decode cX7_passes 205 = .ok (.iload 5, 2) := dk_21 5 (dk_at dksX7_passes_8 19 rfl rfl)
theorem dX7_passes_207 : decode cX7_passes 207 = .ok (.if_icmp .ge 6, 3) := dk_162 0 6 (dk_at dksX7_passes_8 21 rfl rfl)
theorem dX7_passes_210 : decode cX7_passes 210 = .ok (.goto 20, 3) := dk_167 0 20 (dk_at dksX7_passes_9 0 rfl rfl)
theorem dX7_passes_213 : decode cX7_passes 213 = .ok (.aload_n 0, 1) := dk_42 (dk_at dksX7_passes_9 3 rfl rfl)
theorem dX7_passes_214 : decode cX7_passes 214 = .ok (.iload 4, 2) := dk_21 4 (dk_at dksX7_passes_9 4 rfl rfl)
theorem dX7_passes_216 : decode cX7_passes 216 = .ok (.bipush 10, 2) := dk_16 10 (dk_at dksX7_passes_9 6 rfl rfl)
theorem dX7_passes_218 : decode cX7_passes 218 = .ok (.iconst 2, 1) := dk_5 (dk_at dksX7_passes_9 8 rfl rfl)
theorem dX7_passes_219 : decode cX7_passes 219 = .ok (.invokevirtual 147, 3) := dk_182 0 147 (dk_at dksX7_passes_9 9 rfl rfl)
theorem dX7_passes_222 : decode cX7_passes 222 = .ok (.aload_n 0, 1) := dk_42 (dk_at dksX7_passes_9 12 rfl rfl)
theorem dX7_passes_223 : decode cX7_passes 223 = .ok (.iload 4, 2) := dk_21 4 (dk_at dksX7_passes_9 13 rfl rfl)
theorem dX7_passes_225 : decode cX7_passes 225 = .ok (.iconst 1, 1) := dk_4 (dk_at dksX7_passes_9 15 rfl rfl)
theorem dX7_passes_226 : decode cX7_passes 226 = .ok (.iconst 0, 1) := dk_3 (dk_at dksX7_passes_9 16 rfl rfl)
theorem dX7_passes_227 : decode cX7_passes 227 = .ok (.invokevirtual 279, 3) := dk_182 1 23 (dk_at dksX7_passes_9 17 rfl rfl)
theorem dX7_passes_230 : decode cX7_passes 230 = .ok (.iinc 4 1, 3) := dk_132 4 1 (dk_at dksX7_passes_9 20 rfl rfl)
theorem dX7_passes_233 : decode cX7_passes 233 = .ok (.goto (-95), 3) := dk_167 255 161 (dk_at dksX7_passes_10 0 rfl rfl)
theorem dX7_passes_236 : decode cX7_passes 236 = .ok (.iconst 0, 1) := dk_3 (dk_at dksX7_passes_10 3 rfl rfl)
theorem dX7_passes_237 : decode cX7_passes 237 = .ok (.istore 4, 2) := dk_54 4 (dk_at dksX7_passes_10 4 rfl rfl)
theorem dX7_passes_239 : decode cX7_passes 239 = .ok (.iconst 0, 1) := dk_3 (dk_at dksX7_passes_10 6 rfl rfl)
theorem dX7_passes_240 : decode cX7_passes 240 = .ok (.istore 5, 2) := dk_54 5 (dk_at dksX7_passes_10 7 rfl rfl)
theorem dX7_passes_242 : decode cX7_passes 242 = .ok (.iload 5, 2) := dk_21 5 (dk_at dksX7_passes_10 9 rfl rfl)
theorem dX7_passes_244 : decode cX7_passes 244 = .ok (.aload_n 0, 1) := dk_42 (dk_at dksX7_passes_10 11 rfl rfl)
theorem dX7_passes_245 : decode cX7_passes 245 = .ok (.getfield 7, 3) := dk_180 0 7 (dk_at dksX7_passes_10 12 rfl rfl)
theorem dX7_passes_248 : decode cX7_passes 248 = .ok (.iconst 5, 1) := dk_8 (dk_at dksX7_passes_10 15 rfl rfl)
theorem dX7_passes_249 : decode cX7_passes 249 = .ok (.iaload, 1) := dk_46 (dk_at dksX7_passes_10 16 rfl rfl)
theorem dX7_passes_250 : decode cX7_passes 250 = .ok (.if_icmp .ge 68, 3) := dk_162 0 68 (dk_at dksX7_passes_10 17 rfl rfl)
theorem dX7_passes_253 : decode cX7_passes 253 = .ok (.aload_n 0, 1) := dk_42 (dk_at dksX7_passes_10 20 rfl rfl)
theorem dX7_passes_254 : decode cX7_passes 254 = .ok (.iload 5, 2) := dk_21 5 (dk_at dksX7_passes_10 21 rfl rfl)
theorem dX7_passes_256 : decode cX7_passes 256 = .ok (.invokevirtual 294, 3) := dk_182 1 38 (dk_at dksX7_passes_11 0 rfl rfl)
theorem dX7_passes_259 : decode cX7_passes 259 = .ok (.ifCond .eq 53, 3) := dk_153 0 53 (dk_at dksX7_passes_11 3 rfl rfl)
theorem dX7_passes_262 : decode cX7_passes 262 = .ok (.aload_n 0, 1) := dk_42 (dk_at dksX7_passes_11 6 rfl rfl)
theorem dX7_passes_263 : decode cX7_passes 263 = .ok (.iload 5, 2) := dk_21 5 (dk_at dksX7_passes_11 7 rfl rfl)
theorem dX7_passes_265 : decode cX7_passes 265 = .ok (.bipush 11, 2) := dk_16 11 (dk_at dksX7_passes_11 9 rfl rfl)
theorem dX7_passes_267 : decode cX7_passes 267 = .ok (.invokevirtual 52, 3) := dk_182 0 52 (dk_at dksX7_passes_11 11 rfl rfl)
theorem dX7_passes_270 : decode cX7_passes 270 = .ok (.iconst 1, 1) := dk_4 (dk_at dksX7_passes_11 14 rfl rfl)
theorem dX7_passes_271 : decode cX7_passes 271 = .ok (.if_icmp .eq 41, 3) := dk_159 0 41 (dk_at dksX7_passes_11 15 rfl rfl)
theorem dX7_passes_274 : decode cX7_passes 274 = .ok (.aload_n 0, 1) := dk_42 (dk_at dksX7_passes_11 18 rfl rfl)
theorem dX7_passes_275 : decode cX7_passes 275 = .ok (.getfield 7, 3) := dk_180 0 7 (dk_at dksX7_passes_11 19 rfl rfl)
theorem dX7_passes_278 : decode cX7_passes 278 = .ok (.bipush 6, 2) := dk_16 6 (dk_at dksX7_passes_11 22 rfl rfl)
theorem dX7_passes_280 : decode cX7_passes 280 = .ok (.iaload, 1) := dk_46 (dk_at dksX7_passes_12 0 rfl rfl)
theorem dX7_passes_281 : decode cX7_passes 281 = .ok (.aload_n 0, 1) := dk_42 (dk_at dksX7_passes_12 1 rfl rfl)
theorem dX7_passes_282 : decode cX7_passes 282 = .ok (.iload 5, 2) := dk_21 5 (dk_at dksX7_passes_12 2 rfl rfl)
theorem dX7_passes_284 : decode cX7_passes 284 = .ok (.bipush 9, 2) := dk_16 9 (dk_at dksX7_passes_12 4 rfl rfl)
theorem dX7_passes_286 : decode cX7_passes 286 = .ok (.invokevirtual 52, 3) := dk_182 0 52 (dk_at dksX7_passes_12 6 rfl rfl)
theorem dX7_passes_289 : decode cX7_passes 289 = .ok (.isub, 1) := dk_100 (dk_at dksX7_passes_12 9 rfl rfl)
theorem dX7_passes_290 : decode cX7_passes 290 = .ok (.aload_n 0, 1) := dk_42 (dk_at dksX7_passes_12 10 rfl rfl)
theorem dX7_passes_291 : decode cX7_passes 291 = .ok (.iload 5, 2) := dk_21 5 (dk_at dksX7_passes_12 11 rfl rfl)
theorem dX7_passes_293 : decode cX7_passes 293 = .ok (.iconst 4, 1) := dk_7 (dk_at dksX7_passes_12 13 rfl rfl)
theorem dX7_passes_294 : decode cX7_passes 294 = .ok (.invokevirtual 52, 3) := dk_182 0 52 (dk_at dksX7_passes_12 14 rfl rfl)
theorem dX7_passes_297 : decode cX7_passes 297 = .ok (.if_icmp .ge 6, 3) := dk_162 0 6 (dk_at dksX7_passes_12 17 rfl rfl)
theorem dX7_passes_300 : decode cX7_passes 300 = .ok (.goto 12, 3) := dk_167 0 12 (dk_at dksX7_passes_12 20 rfl rfl)
theorem dX7_passes_303 : decode cX7_passes 303 = .ok (.aload_n 0, 1) := dk_42 (dk_at dksX7_passes_12 23 rfl rfl)
theorem dX7_passes_304 : decode cX7_passes 304 = .ok (.iload 5, 2) := dk_21 5 (dk_at dksX7_passes_13 0 rfl rfl)
theorem dX7_passes_306 : decode cX7_passes 306 = .ok (.invokevirtual 297, 3) := dk_182 1 41 (dk_at dksX7_passes_13 2 rfl rfl)
theorem dX7_passes_309 : decode cX7_passes 309 = .ok (.iinc 4 1, 3) := dk_132 4 1 (dk_at dksX7_passes_13 5 rfl rfl)
theorem dX7_passes_312 : decode cX7_passes 312 = .ok (.iinc 5 1, 3) := dk_132 5 1 (dk_at dksX7_passes_13 8 rfl rfl)
theorem dX7_passes_315 : decode cX7_passes 315 = .ok (.goto (-73), 3) := dk_167 255 183 (dk_at dksX7_passes_13 11 rfl rfl)
theorem dX7_passes_318 : decode cX7_passes 318 = .ok (.aload_n 0, 1) := dk_42 (dk_at dksX7_passes_13 14 rfl rfl)
theorem dX7_passes_319 : decode cX7_passes 319 = .ok (.getfield 7, 3) := dk_180 0 7 (dk_at dksX7_passes_13 15 rfl rfl)
theorem dX7_passes_322 : decode cX7_passes 322 = .ok (.bipush 6, 2) := dk_16 6 (dk_at dksX7_passes_13 18 rfl rfl)
theorem dX7_passes_324 : decode cX7_passes 324 = .ok (.sipush 9999, 3) := dk_17 39 15 (dk_at dksX7_passes_13 20 rfl rfl)
theorem dX7_passes_327 : decode cX7_passes 327 = .ok (.aload_n 0, 1) := dk_42 (dk_at dksX7_passes_13 23 rfl rfl)
theorem dX7_passes_328 : decode cX7_passes 328 = .ok (.getfield 7, 3) := dk_180 0 7 (dk_at dksX7_passes_14 0 rfl rfl)
theorem dX7_passes_331 : decode cX7_passes 331 = .ok (.bipush 6, 2) := dk_16 6 (dk_at dksX7_passes_14 3 rfl rfl)
theorem dX7_passes_333 : decode cX7_passes 333 = .ok (.iaload, 1) := dk_46 (dk_at dksX7_passes_14 5 rfl rfl)
theorem dX7_passes_334 : decode cX7_passes 334 = .ok (.iconst 1, 1) := dk_4 (dk_at dksX7_passes_14 6 rfl rfl)
theorem dX7_passes_335 : decode cX7_passes 335 = .ok (.iadd, 1) := dk_96 (dk_at dksX7_passes_14 7 rfl rfl)
theorem dX7_passes_336 : decode cX7_passes 336 = .ok (.invokestatic 276, 3) := dk_184 1 20 (dk_at dksX7_passes_14 8 rfl rfl)
theorem dX7_passes_339 : decode cX7_passes 339 = .ok (.iastore, 1) := dk_79 (dk_at dksX7_passes_14 11 rfl rfl)
theorem dX7_passes_340 : decode cX7_passes 340 = .ok (.iload 4, 2) := dk_21 4 (dk_at dksX7_passes_14 12 rfl rfl)
theorem dX7_passes_342 : decode cX7_passes 342 = .ok (.ireturn, 1) := dk_172 (dk_at dksX7_passes_14 14 rfl rfl)
abbrev cX7_draw : ByteArray := prog_20_method_54_code
def yX7_draw : MethodName := ⟨RX7, "draw", "(I)I"⟩
def dkwX7_draw_1 : List UInt8 := [180, 0, 7, 16, 10, 46, 16, 16, 124, 17, 127, 255, 126, 27, 112, 172]
abbrev dktX7_draw_1 : List UInt8 := dkwX7_draw_1 ++ []
def dkwX7_draw_0 : List UInt8 := [42, 180, 0, 7, 16, 10, 19, 1, 19, 42, 180, 0, 7, 16, 10, 46, 104, 17, 48, 57, 96, 79, 42]
abbrev dktX7_draw_0 : List UInt8 := dkwX7_draw_0 ++ dktX7_draw_1
theorem dksX7_draw_0 : cX7_draw.data.toList.drop 0 = dktX7_draw_0 := by decide +kernel
theorem dksX7_draw_1 : cX7_draw.data.toList.drop 23 = dktX7_draw_1 := dk_seg dksX7_draw_0 23 rfl rfl
theorem dX7_draw_0 : decode cX7_draw 0 = .ok (.aload_n 0, 1) := dk_42 (dk_at dksX7_draw_0 0 rfl rfl)
theorem dX7_draw_1 : decode cX7_draw 1 = .ok (.getfield 7, 3) := dk_180 0 7 (dk_at dksX7_draw_0 1 rfl rfl)
theorem dX7_draw_4 : decode cX7_draw 4 = .ok (.bipush 10, 2) := dk_16 10 (dk_at dksX7_draw_0 4 rfl rfl)
theorem dX7_draw_6 : decode cX7_draw 6 = .ok (.ldc_w 275, 3) := dk_19 1 19 (dk_at dksX7_draw_0 6 rfl rfl)
theorem dX7_draw_9 : decode cX7_draw 9 = .ok (.aload_n 0, 1) := dk_42 (dk_at dksX7_draw_0 9 rfl rfl)
theorem dX7_draw_10 : decode cX7_draw 10 = .ok (.getfield 7, 3) := dk_180 0 7 (dk_at dksX7_draw_0 10 rfl rfl)
theorem dX7_draw_13 : decode cX7_draw 13 = .ok (.bipush 10, 2) := dk_16 10 (dk_at dksX7_draw_0 13 rfl rfl)
theorem dX7_draw_15 : decode cX7_draw 15 = .ok (.iaload, 1) := dk_46 (dk_at dksX7_draw_0 15 rfl rfl)
theorem dX7_draw_16 : decode cX7_draw 16 = .ok (.imul, 1) := dk_104 (dk_at dksX7_draw_0 16 rfl rfl)
theorem dX7_draw_17 : decode cX7_draw 17 = .ok (.sipush 12345, 3) := dk_17 48 57 (dk_at dksX7_draw_0 17 rfl rfl)
theorem dX7_draw_20 : decode cX7_draw 20 = .ok (.iadd, 1) := dk_96 (dk_at dksX7_draw_0 20 rfl rfl)
theorem dX7_draw_21 : decode cX7_draw 21 = .ok (.iastore, 1) := dk_79 (dk_at dksX7_draw_0 21 rfl rfl)
theorem dX7_draw_22 : decode cX7_draw 22 = .ok (.aload_n 0, 1) := dk_42 (dk_at dksX7_draw_0 22 rfl rfl)
theorem dX7_draw_23 : decode cX7_draw 23 = .ok (.getfield 7, 3) := dk_180 0 7 (dk_at dksX7_draw_1 0 rfl rfl)
theorem dX7_draw_26 : decode cX7_draw 26 = .ok (.bipush 10, 2) := dk_16 10 (dk_at dksX7_draw_1 3 rfl rfl)
theorem dX7_draw_28 : decode cX7_draw 28 = .ok (.iaload, 1) := dk_46 (dk_at dksX7_draw_1 5 rfl rfl)
theorem dX7_draw_29 : decode cX7_draw 29 = .ok (.bipush 16, 2) := dk_16 16 (dk_at dksX7_draw_1 6 rfl rfl)
theorem dX7_draw_31 : decode cX7_draw 31 = .ok (.iushr, 1) := dk_124 (dk_at dksX7_draw_1 8 rfl rfl)
theorem dX7_draw_32 : decode cX7_draw 32 = .ok (.sipush 32767, 3) := dk_17 127 255 (dk_at dksX7_draw_1 9 rfl rfl)
theorem dX7_draw_35 : decode cX7_draw 35 = .ok (.iand, 1) := dk_126 (dk_at dksX7_draw_1 12 rfl rfl)
theorem dX7_draw_36 : decode cX7_draw 36 = .ok (.iload_n 1, 1) := dk_27 (dk_at dksX7_draw_1 13 rfl rfl)
theorem dX7_draw_37 : decode cX7_draw 37 = .ok (.irem, 1) := dk_112 (dk_at dksX7_draw_1 14 rfl rfl)
theorem dX7_draw_38 : decode cX7_draw 38 = .ok (.ireturn, 1) := dk_172 (dk_at dksX7_draw_1 15 rfl rfl)
abbrev cX7_lesser : ByteArray := prog_20_method_4_code
def yX7_lesser : MethodName := ⟨RX7, "lesser", "(II)I"⟩
def dkwX7_lesser_0 : List UInt8 := [26, 27, 162, 0, 7, 26, 167, 0, 4, 27, 172]
abbrev dktX7_lesser_0 : List UInt8 := dkwX7_lesser_0 ++ []
theorem dksX7_lesser_0 : cX7_lesser.data.toList.drop 0 = dktX7_lesser_0 := by decide +kernel
theorem dX7_lesser_0 : decode cX7_lesser 0 = .ok (.iload_n 0, 1) := dk_26 (dk_at dksX7_lesser_0 0 rfl rfl)
theorem dX7_lesser_1 : decode cX7_lesser 1 = .ok (.iload_n 1, 1) := dk_27 (dk_at dksX7_lesser_0 1 rfl rfl)
theorem dX7_lesser_2 : decode cX7_lesser 2 = .ok (.if_icmp .ge 7, 3) := dk_162 0 7 (dk_at dksX7_lesser_0 2 rfl rfl)
theorem dX7_lesser_5 : decode cX7_lesser 5 = .ok (.iload_n 0, 1) := dk_26 (dk_at dksX7_lesser_0 5 rfl rfl)
theorem dX7_lesser_6 : decode cX7_lesser 6 = .ok (.goto 4, 3) := dk_167 0 4 (dk_at dksX7_lesser_0 6 rfl rfl)
theorem dX7_lesser_9 : decode cX7_lesser 9 = .ok (.iload_n 1, 1) := dk_27 (dk_at dksX7_lesser_0 9 rfl rfl)
theorem dX7_lesser_10 : decode cX7_lesser 10 = .ok (.ireturn, 1) := dk_172 (dk_at dksX7_lesser_0 10 rfl rfl)
abbrev cX7_comesUp : ByteArray := prog_20_method_56_code
def yX7_comesUp : MethodName := ⟨RX7, "comesUp", "(I)V"⟩
def dkwX7_comesUp_1 : List UInt8 := [3, 3, 182, 1, 23, 177]
abbrev dktX7_comesUp_1 : List UInt8 := dkwX7_comesUp_1 ++ []
def dkwX7_comesUp_0 : List UInt8 := [42, 27, 16, 10, 4, 182, 0, 147, 42, 27, 16, 9, 42, 180, 0, 7, 16, 6, 46, 182, 0, 147, 42, 27]
abbrev dktX7_comesUp_0 : List UInt8 := dkwX7_comesUp_0 ++ dktX7_comesUp_1
theorem dksX7_comesUp_0 : cX7_comesUp.data.toList.drop 0 = dktX7_comesUp_0 := by decide +kernel
theorem dksX7_comesUp_1 : cX7_comesUp.data.toList.drop 24 = dktX7_comesUp_1 := dk_seg dksX7_comesUp_0 24 rfl rfl
theorem dX7_comesUp_0 : decode cX7_comesUp 0 = .ok (.aload_n 0, 1) := dk_42 (dk_at dksX7_comesUp_0 0 rfl rfl)
theorem dX7_comesUp_1 : decode cX7_comesUp 1 = .ok (.iload_n 1, 1) := dk_27 (dk_at dksX7_comesUp_0 1 rfl rfl)
theorem dX7_comesUp_2 : decode cX7_comesUp 2 = .ok (.bipush 10, 2) := dk_16 10 (dk_at dksX7_comesUp_0 2 rfl rfl)
theorem dX7_comesUp_4 : decode cX7_comesUp 4 = .ok (.iconst 1, 1) := dk_4 (dk_at dksX7_comesUp_0 4 rfl rfl)
theorem dX7_comesUp_5 : decode cX7_comesUp 5 = .ok (.invokevirtual 147, 3) := dk_182 0 147 (dk_at dksX7_comesUp_0 5 rfl rfl)
theorem dX7_comesUp_8 : decode cX7_comesUp 8 = .ok (.aload_n 0, 1) := dk_42 (dk_at dksX7_comesUp_0 8 rfl rfl)
theorem dX7_comesUp_9 : decode cX7_comesUp 9 = .ok (.iload_n 1, 1) := dk_27 (dk_at dksX7_comesUp_0 9 rfl rfl)
theorem dX7_comesUp_10 : decode cX7_comesUp 10 = .ok (.bipush 9, 2) := dk_16 9 (dk_at dksX7_comesUp_0 10 rfl rfl)
theorem dX7_comesUp_12 : decode cX7_comesUp 12 = .ok (.aload_n 0, 1) := dk_42 (dk_at dksX7_comesUp_0 12 rfl rfl)
theorem dX7_comesUp_13 : decode cX7_comesUp 13 = .ok (.getfield 7, 3) := dk_180 0 7 (dk_at dksX7_comesUp_0 13 rfl rfl)
theorem dX7_comesUp_16 : decode cX7_comesUp 16 = .ok (.bipush 6, 2) := dk_16 6 (dk_at dksX7_comesUp_0 16 rfl rfl)
theorem dX7_comesUp_18 : decode cX7_comesUp 18 = .ok (.iaload, 1) := dk_46 (dk_at dksX7_comesUp_0 18 rfl rfl)
theorem dX7_comesUp_19 : decode cX7_comesUp 19 = .ok (.invokevirtual 147, 3) := dk_182 0 147 (dk_at dksX7_comesUp_0 19 rfl rfl)
theorem dX7_comesUp_22 : decode cX7_comesUp 22 = .ok (.aload_n 0, 1) := dk_42 (dk_at dksX7_comesUp_0 22 rfl rfl)
theorem dX7_comesUp_23 : decode cX7_comesUp 23 = .ok (.iload_n 1, 1) := dk_27 (dk_at dksX7_comesUp_0 23 rfl rfl)
theorem dX7_comesUp_24 : decode cX7_comesUp 24 = .ok (.iconst 0, 1) := dk_3 (dk_at dksX7_comesUp_1 0 rfl rfl)
theorem dX7_comesUp_25 : decode cX7_comesUp 25 = .ok (.iconst 0, 1) := dk_3 (dk_at dksX7_comesUp_1 1 rfl rfl)
theorem dX7_comesUp_26 : decode cX7_comesUp 26 = .ok (.invokevirtual 279, 3) := dk_182 1 23 (dk_at dksX7_comesUp_1 2 rfl rfl)
theorem dX7_comesUp_29 : decode cX7_comesUp 29 = .ok (.return_, 1) := dk_177 (dk_at dksX7_comesUp_1 5 rfl rfl)
abbrev cX7_logs : ByteArray := prog_20_method_55_code
def yX7_logs : MethodName := ⟨RX7, "logs", "(III)V"⟩
def dkwX7_logs_4 : List UInt8 := [180, 0, 7, 16, 9, 46, 4, 96, 184, 1, 20, 79, 177]
abbrev dktX7_logs_4 : List UInt8 := dkwX7_logs_4 ++ []
def dkwX7_logs_3 : List UInt8 := [17, 0, 143, 28, 79, 42, 180, 0, 7, 17, 0, 144, 29, 79, 42, 180, 0, 7, 16, 9, 16, 60, 42]
abbrev dktX7_logs_3 : List UInt8 := dkwX7_logs_3 ++ dktX7_logs_4
def dkwX7_logs_2 : List UInt8 := [17, 0, 141, 42, 180, 0, 7, 16, 6, 46, 79, 42, 180, 0, 7, 17, 0, 142, 27, 79, 42, 180, 0, 7]
abbrev dktX7_logs_2 : List UInt8 := dkwX7_logs_2 ++ dktX7_logs_3
def dkwX7_logs_1 : List UInt8 := [180, 0, 7, 17, 0, 141, 21, 4, 96, 7, 100, 46, 79, 132, 4, 255, 167, 255, 223, 42, 180, 0, 7]
abbrev dktX7_logs_1 : List UInt8 := dkwX7_logs_1 ++ dktX7_logs_2
def dkwX7_logs_0 : List UInt8 := [17, 0, 239, 54, 4, 21, 4, 7, 161, 0, 33, 42, 180, 0, 7, 17, 0, 141, 21, 4, 96, 42]
abbrev dktX7_logs_0 : List UInt8 := dkwX7_logs_0 ++ dktX7_logs_1
theorem dksX7_logs_0 : cX7_logs.data.toList.drop 0 = dktX7_logs_0 := by decide +kernel
theorem dksX7_logs_1 : cX7_logs.data.toList.drop 22 = dktX7_logs_1 := dk_seg dksX7_logs_0 22 rfl rfl
theorem dksX7_logs_2 : cX7_logs.data.toList.drop 45 = dktX7_logs_2 := dk_seg dksX7_logs_1 23 rfl rfl
theorem dksX7_logs_3 : cX7_logs.data.toList.drop 69 = dktX7_logs_3 := dk_seg dksX7_logs_2 24 rfl rfl
theorem dksX7_logs_4 : cX7_logs.data.toList.drop 92 = dktX7_logs_4 := dk_seg dksX7_logs_3 23 rfl rfl
theorem dX7_logs_0 : decode cX7_logs 0 = .ok (.sipush 239, 3) := dk_17 0 239 (dk_at dksX7_logs_0 0 rfl rfl)
theorem dX7_logs_3 : decode cX7_logs 3 = .ok (.istore 4, 2) := dk_54 4 (dk_at dksX7_logs_0 3 rfl rfl)
theorem dX7_logs_5 : decode cX7_logs 5 = .ok (.iload 4, 2) := dk_21 4 (dk_at dksX7_logs_0 5 rfl rfl)
theorem dX7_logs_7 : decode cX7_logs 7 = .ok (.iconst 4, 1) := dk_7 (dk_at dksX7_logs_0 7 rfl rfl)
theorem dX7_logs_8 : decode cX7_logs 8 = .ok (.if_icmp .lt 33, 3) := dk_161 0 33 (dk_at dksX7_logs_0 8 rfl rfl)
theorem dX7_logs_11 : decode cX7_logs 11 = .ok (.aload_n 0, 1) := dk_42 (dk_at dksX7_logs_0 11 rfl rfl)
theorem dX7_logs_12 : decode cX7_logs 12 = .ok (.getfield 7, 3) := dk_180 0 7 (dk_at dksX7_logs_0 12 rfl rfl)
theorem dX7_logs_15 : decode cX7_logs 15 = .ok (.sipush 141, 3) := dk_17 0 141 (dk_at dksX7_logs_0 15 rfl rfl)
theorem dX7_logs_18 : decode cX7_logs 18 = .ok (.iload 4, 2) := dk_21 4 (dk_at dksX7_logs_0 18 rfl rfl)
theorem dX7_logs_20 : decode cX7_logs 20 = .ok (.iadd, 1) := dk_96 (dk_at dksX7_logs_0 20 rfl rfl)
theorem dX7_logs_21 : decode cX7_logs 21 = .ok (.aload_n 0, 1) := dk_42 (dk_at dksX7_logs_0 21 rfl rfl)
theorem dX7_logs_22 : decode cX7_logs 22 = .ok (.getfield 7, 3) := dk_180 0 7 (dk_at dksX7_logs_1 0 rfl rfl)
theorem dX7_logs_25 : decode cX7_logs 25 = .ok (.sipush 141, 3) := dk_17 0 141 (dk_at dksX7_logs_1 3 rfl rfl)
theorem dX7_logs_28 : decode cX7_logs 28 = .ok (.iload 4, 2) := dk_21 4 (dk_at dksX7_logs_1 6 rfl rfl)
theorem dX7_logs_30 : decode cX7_logs 30 = .ok (.iadd, 1) := dk_96 (dk_at dksX7_logs_1 8 rfl rfl)
theorem dX7_logs_31 : decode cX7_logs 31 = .ok (.iconst 4, 1) := dk_7 (dk_at dksX7_logs_1 9 rfl rfl)
theorem dX7_logs_32 : decode cX7_logs 32 = .ok (.isub, 1) := dk_100 (dk_at dksX7_logs_1 10 rfl rfl)
theorem dX7_logs_33 : decode cX7_logs 33 = .ok (.iaload, 1) := dk_46 (dk_at dksX7_logs_1 11 rfl rfl)
theorem dX7_logs_34 : decode cX7_logs 34 = .ok (.iastore, 1) := dk_79 (dk_at dksX7_logs_1 12 rfl rfl)
theorem dX7_logs_35 : decode cX7_logs 35 = .ok (.iinc 4 (-1), 3) := dk_132 4 255 (dk_at dksX7_logs_1 13 rfl rfl)
theorem dX7_logs_38 : decode cX7_logs 38 = .ok (.goto (-33), 3) := dk_167 255 223 (dk_at dksX7_logs_1 16 rfl rfl)
theorem dX7_logs_41 : decode cX7_logs 41 = .ok (.aload_n 0, 1) := dk_42 (dk_at dksX7_logs_1 19 rfl rfl)
theorem dX7_logs_42 : decode cX7_logs 42 = .ok (.getfield 7, 3) := dk_180 0 7 (dk_at dksX7_logs_1 20 rfl rfl)
theorem dX7_logs_45 : decode cX7_logs 45 = .ok (.sipush 141, 3) := dk_17 0 141 (dk_at dksX7_logs_2 0 rfl rfl)
theorem dX7_logs_48 : decode cX7_logs 48 = .ok (.aload_n 0, 1) := dk_42 (dk_at dksX7_logs_2 3 rfl rfl)
theorem dX7_logs_49 : decode cX7_logs 49 = .ok (.getfield 7, 3) := dk_180 0 7 (dk_at dksX7_logs_2 4 rfl rfl)
theorem dX7_logs_52 : decode cX7_logs 52 = .ok (.bipush 6, 2) := dk_16 6 (dk_at dksX7_logs_2 7 rfl rfl)
theorem dX7_logs_54 : decode cX7_logs 54 = .ok (.iaload, 1) := dk_46 (dk_at dksX7_logs_2 9 rfl rfl)
theorem dX7_logs_55 : decode cX7_logs 55 = .ok (.iastore, 1) := dk_79 (dk_at dksX7_logs_2 10 rfl rfl)
theorem dX7_logs_56 : decode cX7_logs 56 = .ok (.aload_n 0, 1) := dk_42 (dk_at dksX7_logs_2 11 rfl rfl)
theorem dX7_logs_57 : decode cX7_logs 57 = .ok (.getfield 7, 3) := dk_180 0 7 (dk_at dksX7_logs_2 12 rfl rfl)
theorem dX7_logs_60 : decode cX7_logs 60 = .ok (.sipush 142, 3) := dk_17 0 142 (dk_at dksX7_logs_2 15 rfl rfl)
theorem dX7_logs_63 : decode cX7_logs 63 = .ok (.iload_n 1, 1) := dk_27 (dk_at dksX7_logs_2 18 rfl rfl)
theorem dX7_logs_64 : decode cX7_logs 64 = .ok (.iastore, 1) := dk_79 (dk_at dksX7_logs_2 19 rfl rfl)
theorem dX7_logs_65 : decode cX7_logs 65 = .ok (.aload_n 0, 1) := dk_42 (dk_at dksX7_logs_2 20 rfl rfl)
theorem dX7_logs_66 : decode cX7_logs 66 = .ok (.getfield 7, 3) := dk_180 0 7 (dk_at dksX7_logs_2 21 rfl rfl)
theorem dX7_logs_69 : decode cX7_logs 69 = .ok (.sipush 143, 3) := dk_17 0 143 (dk_at dksX7_logs_3 0 rfl rfl)
theorem dX7_logs_72 : decode cX7_logs 72 = .ok (.iload_n 2, 1) := dk_28 (dk_at dksX7_logs_3 3 rfl rfl)
theorem dX7_logs_73 : decode cX7_logs 73 = .ok (.iastore, 1) := dk_79 (dk_at dksX7_logs_3 4 rfl rfl)
theorem dX7_logs_74 : decode cX7_logs 74 = .ok (.aload_n 0, 1) := dk_42 (dk_at dksX7_logs_3 5 rfl rfl)
theorem dX7_logs_75 : decode cX7_logs 75 = .ok (.getfield 7, 3) := dk_180 0 7 (dk_at dksX7_logs_3 6 rfl rfl)
theorem dX7_logs_78 : decode cX7_logs 78 = .ok (.sipush 144, 3) := dk_17 0 144 (dk_at dksX7_logs_3 9 rfl rfl)
theorem dX7_logs_81 : decode cX7_logs 81 = .ok (.iload_n 3, 1) := dk_29 (dk_at dksX7_logs_3 12 rfl rfl)
theorem dX7_logs_82 : decode cX7_logs 82 = .ok (.iastore, 1) := dk_79 (dk_at dksX7_logs_3 13 rfl rfl)
theorem dX7_logs_83 : decode cX7_logs 83 = .ok (.aload_n 0, 1) := dk_42 (dk_at dksX7_logs_3 14 rfl rfl)
theorem dX7_logs_84 : decode cX7_logs 84 = .ok (.getfield 7, 3) := dk_180 0 7 (dk_at dksX7_logs_3 15 rfl rfl)
theorem dX7_logs_87 : decode cX7_logs 87 = .ok (.bipush 9, 2) := dk_16 9 (dk_at dksX7_logs_3 18 rfl rfl)
theorem dX7_logs_89 : decode cX7_logs 89 = .ok (.bipush 60, 2) := dk_16 60 (dk_at dksX7_logs_3 20 rfl rfl)
theorem dX7_logs_91 : decode cX7_logs 91 = .ok (.aload_n 0, 1) := dk_42 (dk_at dksX7_logs_3 22 rfl rfl)
theorem dX7_logs_92 : decode cX7_logs 92 = .ok (.getfield 7, 3) := dk_180 0 7 (dk_at dksX7_logs_4 0 rfl rfl)
theorem dX7_logs_95 : decode cX7_logs 95 = .ok (.bipush 9, 2) := dk_16 9 (dk_at dksX7_logs_4 3 rfl rfl)
theorem dX7_logs_97 : decode cX7_logs 97 = .ok (.iaload, 1) := dk_46 (dk_at dksX7_logs_4 5 rfl rfl)
theorem dX7_logs_98 : decode cX7_logs 98 = .ok (.iconst 1, 1) := dk_4 (dk_at dksX7_logs_4 6 rfl rfl)
theorem dX7_logs_99 : decode cX7_logs 99 = .ok (.iadd, 1) := dk_96 (dk_at dksX7_logs_4 7 rfl rfl)
theorem dX7_logs_100 : decode cX7_logs 100 = .ok (.invokestatic 276, 3) := dk_184 1 20 (dk_at dksX7_logs_4 8 rfl rfl)
theorem dX7_logs_103 : decode cX7_logs 103 = .ok (.iastore, 1) := dk_79 (dk_at dksX7_logs_4 11 rfl rfl)
theorem dX7_logs_104 : decode cX7_logs 104 = .ok (.return_, 1) := dk_177 (dk_at dksX7_logs_4 12 rfl rfl)
abbrev cX7_pays : ByteArray := prog_20_method_57_code
def yX7_pays : MethodName := ⟨RX7, "pays", "(I)V"⟩
def dkwX7_pays_5 : List UInt8 := [16, 11, 4, 182, 0, 147, 42, 27, 29, 153, 0, 7, 6, 167, 0, 4, 5, 28, 182, 1, 23, 177]
abbrev dktX7_pays_5 : List UInt8 := dkwX7_pays_5 ++ []
def dkwX7_pays_4 : List UInt8 := [153, 0, 22, 42, 180, 0, 7, 16, 15, 5, 42, 27, 4, 182, 0, 52, 104, 96, 4, 96, 4, 79, 42, 27]
abbrev dktX7_pays_4 : List UInt8 := dkwX7_pays_4 ++ dktX7_pays_5
def dkwX7_pays_3 : List UInt8 := [180, 0, 7, 21, 4, 17, 39, 15, 42, 180, 0, 7, 21, 4, 46, 28, 96, 184, 1, 20, 79, 29]
abbrev dktX7_pays_3 : List UInt8 := dkwX7_pays_3 ++ dktX7_pays_4
def dkwX7_pays_2 : List UInt8 := [182, 0, 52, 104, 96, 92, 46, 28, 100, 79, 16, 15, 5, 42, 27, 5, 182, 0, 52, 104, 96, 54, 4, 42]
abbrev dktX7_pays_2 : List UInt8 := dkwX7_pays_2 ++ dktX7_pays_3
def dkwX7_pays_1 : List UInt8 := [182, 0, 52, 162, 0, 7, 4, 167, 0, 4, 3, 62, 42, 180, 0, 7, 16, 15, 5, 42, 27, 4]
abbrev dktX7_pays_1 : List UInt8 := dkwX7_pays_1 ++ dktX7_pays_2
def dkwX7_pays_0 : List UInt8 := [42, 27, 6, 182, 0, 52, 42, 42, 27, 4, 182, 0, 52, 182, 1, 26, 184, 1, 20, 61, 28, 42, 27, 6]
abbrev dktX7_pays_0 : List UInt8 := dkwX7_pays_0 ++ dktX7_pays_1
theorem dksX7_pays_0 : cX7_pays.data.toList.drop 0 = dktX7_pays_0 := by decide +kernel
theorem dksX7_pays_1 : cX7_pays.data.toList.drop 24 = dktX7_pays_1 := dk_seg dksX7_pays_0 24 rfl rfl
theorem dksX7_pays_2 : cX7_pays.data.toList.drop 46 = dktX7_pays_2 := dk_seg dksX7_pays_1 22 rfl rfl
theorem dksX7_pays_3 : cX7_pays.data.toList.drop 70 = dktX7_pays_3 := dk_seg dksX7_pays_2 24 rfl rfl
theorem dksX7_pays_4 : cX7_pays.data.toList.drop 92 = dktX7_pays_4 := dk_seg dksX7_pays_3 22 rfl rfl
theorem dksX7_pays_5 : cX7_pays.data.toList.drop 116 = dktX7_pays_5 := dk_seg dksX7_pays_4 24 rfl rfl
theorem dX7_pays_0 : decode cX7_pays 0 = .ok (.aload_n 0, 1) := dk_42 (dk_at dksX7_pays_0 0 rfl rfl)
theorem dX7_pays_1 : decode cX7_pays 1 = .ok (.iload_n 1, 1) := dk_27 (dk_at dksX7_pays_0 1 rfl rfl)
theorem dX7_pays_2 : decode cX7_pays 2 = .ok (.iconst 3, 1) := dk_6 (dk_at dksX7_pays_0 2 rfl rfl)
theorem dX7_pays_3 : decode cX7_pays 3 = .ok (.invokevirtual 52, 3) := dk_182 0 52 (dk_at dksX7_pays_0 3 rfl rfl)
theorem dX7_pays_6 : decode cX7_pays 6 = .ok (.aload_n 0, 1) := dk_42 (dk_at dksX7_pays_0 6 rfl rfl)
theorem dX7_pays_7 : decode cX7_pays 7 = .ok (.aload_n 0, 1) := dk_42 (dk_at dksX7_pays_0 7 rfl rfl)
theorem dX7_pays_8 : decode cX7_pays 8 = .ok (.iload_n 1, 1) := dk_27 (dk_at dksX7_pays_0 8 rfl rfl)
theorem dX7_pays_9 : decode cX7_pays 9 = .ok (.iconst 1, 1) := dk_4 (dk_at dksX7_pays_0 9 rfl rfl)
theorem dX7_pays_10 : decode cX7_pays 10 = .ok (.invokevirtual 52, 3) := dk_182 0 52 (dk_at dksX7_pays_0 10 rfl rfl)
theorem dX7_pays_13 : decode cX7_pays 13 = .ok (.invokevirtual 282, 3) := dk_182 1 26 (dk_at dksX7_pays_0 13 rfl rfl)
theorem dX7_pays_16 : decode cX7_pays 16 = .ok (.invokestatic 276, 3) := dk_184 1 20 (dk_at dksX7_pays_0 16 rfl rfl)
theorem dX7_pays_19 : decode cX7_pays 19 = .ok (.istore_n 2, 1) := dk_61 (dk_at dksX7_pays_0 19 rfl rfl)
theorem dX7_pays_20 : decode cX7_pays 20 = .ok (.iload_n 2, 1) := dk_28 (dk_at dksX7_pays_0 20 rfl rfl)
theorem dX7_pays_21 : decode cX7_pays 21 = .ok (.aload_n 0, 1) := dk_42 (dk_at dksX7_pays_0 21 rfl rfl)
theorem dX7_pays_22 : decode cX7_pays 22 = .ok (.iload_n 1, 1) := dk_27 (dk_at dksX7_pays_0 22 rfl rfl)
theorem dX7_pays_23 : decode cX7_pays 23 = .ok (.iconst 3, 1) := dk_6 (dk_at dksX7_pays_0 23 rfl rfl)
theorem dX7_pays_24 : decode cX7_pays 24 = .ok (.invokevirtual 52, 3) := dk_182 0 52 (dk_at dksX7_pays_1 0 rfl rfl)
theorem dX7_pays_27 : decode cX7_pays 27 = .ok (.if_icmp .ge 7, 3) := dk_162 0 7 (dk_at dksX7_pays_1 3 rfl rfl)
theorem dX7_pays_30 : decode cX7_pays 30 = .ok (.iconst 1, 1) := dk_4 (dk_at dksX7_pays_1 6 rfl rfl)
theorem dX7_pays_31 : decode cX7_pays 31 = .ok (.goto 4, 3) := dk_167 0 4 (dk_at dksX7_pays_1 7 rfl rfl)
theorem dX7_pays_34 : decode cX7_pays 34 = .ok (.iconst 0, 1) := dk_3 (dk_at dksX7_pays_1 10 rfl rfl)
theorem dX7_pays_35 : decode cX7_pays 35 = .ok (.istore_n 3, 1) := dk_62 (dk_at dksX7_pays_1 11 rfl rfl)
theorem dX7_pays_36 : decode cX7_pays 36 = .ok (.aload_n 0, 1) := dk_42 (dk_at dksX7_pays_1 12 rfl rfl)
theorem dX7_pays_37 : decode cX7_pays 37 = .ok (.getfield 7, 3) := dk_180 0 7 (dk_at dksX7_pays_1 13 rfl rfl)
theorem dX7_pays_40 : decode cX7_pays 40 = .ok (.bipush 15, 2) := dk_16 15 (dk_at dksX7_pays_1 16 rfl rfl)
theorem dX7_pays_42 : decode cX7_pays 42 = .ok (.iconst 2, 1) := dk_5 (dk_at dksX7_pays_1 18 rfl rfl)
theorem dX7_pays_43 : decode cX7_pays 43 = .ok (.aload_n 0, 1) := dk_42 (dk_at dksX7_pays_1 19 rfl rfl)
theorem dX7_pays_44 : decode cX7_pays 44 = .ok (.iload_n 1, 1) := dk_27 (dk_at dksX7_pays_1 20 rfl rfl)
theorem dX7_pays_45 : decode cX7_pays 45 = .ok (.iconst 1, 1) := dk_4 (dk_at dksX7_pays_1 21 rfl rfl)
theorem dX7_pays_46 : decode cX7_pays 46 = .ok (.invokevirtual 52, 3) := dk_182 0 52 (dk_at dksX7_pays_2 0 rfl rfl)
theorem dX7_pays_49 : decode cX7_pays 49 = .ok (.imul, 1) := dk_104 (dk_at dksX7_pays_2 3 rfl rfl)
theorem dX7_pays_50 : decode cX7_pays 50 = .ok (.iadd, 1) := dk_96 (dk_at dksX7_pays_2 4 rfl rfl)
theorem dX7_pays_51 : decode cX7_pays 51 = .ok (.dup2, 1) := dk_92 (dk_at dksX7_pays_2 5 rfl rfl)
theorem dX7_pays_52 : decode cX7_pays 52 = .ok (.iaload, 1) := dk_46 (dk_at dksX7_pays_2 6 rfl rfl)
theorem dX7_pays_53 : decode cX7_pays 53 = .ok (.iload_n 2, 1) := dk_28 (dk_at dksX7_pays_2 7 rfl rfl)
theorem dX7_pays_54 : decode cX7_pays 54 = .ok (.isub, 1) := dk_100 (dk_at dksX7_pays_2 8 rfl rfl)
theorem dX7_pays_55 : decode cX7_pays 55 = .ok (.iastore, 1) := dk_79 (dk_at dksX7_pays_2 9 rfl rfl)
theorem dX7_pays_56 : decode cX7_pays 56 = .ok (.bipush 15, 2) := dk_16 15 (dk_at dksX7_pays_2 10 rfl rfl)
theorem dX7_pays_58 : decode cX7_pays 58 = .ok (.iconst 2, 1) := dk_5 (dk_at dksX7_pays_2 12 rfl rfl)
theorem dX7_pays_59 : decode cX7_pays 59 = .ok (.aload_n 0, 1) := dk_42 (dk_at dksX7_pays_2 13 rfl rfl)
theorem dX7_pays_60 : decode cX7_pays 60 = .ok (.iload_n 1, 1) := dk_27 (dk_at dksX7_pays_2 14 rfl rfl)
theorem dX7_pays_61 : decode cX7_pays 61 = .ok (.iconst 2, 1) := dk_5 (dk_at dksX7_pays_2 15 rfl rfl)
theorem dX7_pays_62 : decode cX7_pays 62 = .ok (.invokevirtual 52, 3) := dk_182 0 52 (dk_at dksX7_pays_2 16 rfl rfl)
theorem dX7_pays_65 : decode cX7_pays 65 = .ok (.imul, 1) := dk_104 (dk_at dksX7_pays_2 19 rfl rfl)
theorem dX7_pays_66 : decode cX7_pays 66 = .ok (.iadd, 1) := dk_96 (dk_at dksX7_pays_2 20 rfl rfl)
theorem dX7_pays_67 : decode cX7_pays 67 = .ok (.istore 4, 2) := dk_54 4 (dk_at dksX7_pays_2 21 rfl rfl)
theorem dX7_pays_69 : decode cX7_pays 69 = .ok (.aload_n 0, 1) := dk_42 (dk_at dksX7_pays_2 23 rfl rfl)
theorem dX7_pays_70 : decode cX7_pays 70 = .ok (.getfield 7, 3) := dk_180 0 7 (dk_at dksX7_pays_3 0 rfl rfl)
theorem dX7_pays_73 : decode cX7_pays 73 = .ok (.iload 4, 2) := dk_21 4 (dk_at dksX7_pays_3 3 rfl rfl)
theorem dX7_pays_75 : decode cX7_pays 75 = .ok (.sipush 9999, 3) := dk_17 39 15 (dk_at dksX7_pays_3 5 rfl rfl)
theorem dX7_pays_78 : decode cX7_pays 78 = .ok (.aload_n 0, 1) := dk_42 (dk_at dksX7_pays_3 8 rfl rfl)
theorem dX7_pays_79 : decode cX7_pays 79 = .ok (.getfield 7, 3) := dk_180 0 7 (dk_at dksX7_pays_3 9 rfl rfl)
theorem dX7_pays_82 : decode cX7_pays 82 = .ok (.iload 4, 2) := dk_21 4 (dk_at dksX7_pays_3 12 rfl rfl)
theorem dX7_pays_84 : decode cX7_pays 84 = .ok (.iaload, 1) := dk_46 (dk_at dksX7_pays_3 14 rfl rfl)
theorem dX7_pays_85 : decode cX7_pays 85 = .ok (.iload_n 2, 1) := dk_28 (dk_at dksX7_pays_3 15 rfl rfl)
theorem dX7_pays_86 : decode cX7_pays 86 = .ok (.iadd, 1) := dk_96 (dk_at dksX7_pays_3 16 rfl rfl)
theorem dX7_pays_87 : decode cX7_pays 87 = .ok (.invokestatic 276, 3) := dk_184 1 20 (dk_at dksX7_pays_3 17 rfl rfl)
theorem dX7_pays_90 : decode cX7_pays 90 = .ok (.iastore, 1) := dk_79 (dk_at dksX7_pays_3 20 rfl rfl)
theorem dX7_pays_91 : decode cX7_pays 91 = .ok (.iload_n 3, 1) := dk_29 (dk_at dksX7_pays_3 21 rfl rfl)
theorem dX7_pays_92 : decode cX7_pays 92 = .ok (.ifCond .eq 22, 3) := dk_153 0 22 (dk_at dksX7_pays_4 0 rfl rfl)
theorem dX7_pays_95 : decode cX7_pays 95 = .ok (.aload_n 0, 1) := dk_42 (dk_at dksX7_pays_4 3 rfl rfl)
theorem dX7_pays_96 : decode cX7_pays 96 = .ok (.getfield 7, 3) := dk_180 0 7 (dk_at dksX7_pays_4 4 rfl rfl)
theorem dX7_pays_99 : decode cX7_pays 99 = .ok (.bipush 15, 2) := dk_16 15 (dk_at dksX7_pays_4 7 rfl rfl)
theorem dX7_pays_101 : decode cX7_pays 101 = .ok (.iconst 2, 1) := dk_5 (dk_at dksX7_pays_4 9 rfl rfl)
theorem dX7_pays_102 : decode cX7_pays 102 = .ok (.aload_n 0, 1) := dk_42 (dk_at dksX7_pays_4 10 rfl rfl)
theorem dX7_pays_103 : decode cX7_pays 103 = .ok (.iload_n 1, 1) := dk_27 (dk_at dksX7_pays_4 11 rfl rfl)
theorem dX7_pays_104 : decode cX7_pays 104 = .ok (.iconst 1, 1) := dk_4 (dk_at dksX7_pays_4 12 rfl rfl)
theorem dX7_pays_105 : decode cX7_pays 105 = .ok (.invokevirtual 52, 3) := dk_182 0 52 (dk_at dksX7_pays_4 13 rfl rfl)
theorem dX7_pays_108 : decode cX7_pays 108 = .ok (.imul, 1) := dk_104 (dk_at dksX7_pays_4 16 rfl rfl)
theorem dX7_pays_109 : decode cX7_pays 109 = .ok (.iadd, 1) := dk_96 (dk_at dksX7_pays_4 17 rfl rfl)
theorem dX7_pays_110 : decode cX7_pays 110 = .ok (.iconst 1, 1) := dk_4 (dk_at dksX7_pays_4 18 rfl rfl)
theorem dX7_pays_111 : decode cX7_pays 111 = .ok (.iadd, 1) := dk_96 (dk_at dksX7_pays_4 19 rfl rfl)
theorem dX7_pays_112 : decode cX7_pays 112 = .ok (.iconst 1, 1) := dk_4 (dk_at dksX7_pays_4 20 rfl rfl)
theorem dX7_pays_113 : decode cX7_pays 113 = .ok (.iastore, 1) := dk_79 (dk_at dksX7_pays_4 21 rfl rfl)
theorem dX7_pays_114 : decode cX7_pays 114 = .ok (.aload_n 0, 1) := dk_42 (dk_at dksX7_pays_4 22 rfl rfl)
theorem dX7_pays_115 : decode cX7_pays 115 = .ok (.iload_n 1, 1) := dk_27 (dk_at dksX7_pays_4 23 rfl rfl)
theorem dX7_pays_116 : decode cX7_pays 116 = .ok (.bipush 11, 2) := dk_16 11 (dk_at dksX7_pays_5 0 rfl rfl)
theorem dX7_pays_118 : decode cX7_pays 118 = .ok (.iconst 1, 1) := dk_4 (dk_at dksX7_pays_5 2 rfl rfl)
theorem dX7_pays_119 : decode cX7_pays 119 = .ok (.invokevirtual 147, 3) := dk_182 0 147 (dk_at dksX7_pays_5 3 rfl rfl)
theorem dX7_pays_122 : decode cX7_pays 122 = .ok (.aload_n 0, 1) := dk_42 (dk_at dksX7_pays_5 6 rfl rfl)
theorem dX7_pays_123 : decode cX7_pays 123 = .ok (.iload_n 1, 1) := dk_27 (dk_at dksX7_pays_5 7 rfl rfl)
theorem dX7_pays_124 : decode cX7_pays 124 = .ok (.iload_n 3, 1) := dk_29 (dk_at dksX7_pays_5 8 rfl rfl)
theorem dX7_pays_125 : decode cX7_pays 125 = .ok (.ifCond .eq 7, 3) := dk_153 0 7 (dk_at dksX7_pays_5 9 rfl rfl)
theorem dX7_pays_128 : decode cX7_pays 128 = .ok (.iconst 3, 1) := dk_6 (dk_at dksX7_pays_5 12 rfl rfl)
theorem dX7_pays_129 : decode cX7_pays 129 = .ok (.goto 4, 3) := dk_167 0 4 (dk_at dksX7_pays_5 13 rfl rfl)
theorem dX7_pays_132 : decode cX7_pays 132 = .ok (.iconst 2, 1) := dk_5 (dk_at dksX7_pays_5 16 rfl rfl)
theorem dX7_pays_133 : decode cX7_pays 133 = .ok (.iload_n 2, 1) := dk_28 (dk_at dksX7_pays_5 17 rfl rfl)
theorem dX7_pays_134 : decode cX7_pays 134 = .ok (.invokevirtual 279, 3) := dk_182 1 23 (dk_at dksX7_pays_5 18 rfl rfl)
theorem dX7_pays_137 : decode cX7_pays 137 = .ok (.return_, 1) := dk_177 (dk_at dksX7_pays_5 21 rfl rfl)
abbrev cX7_seasons : ByteArray := prog_20_method_70_code
def yX7_seasons : MethodName := ⟨RX7, "seasons", "(I)I"⟩
def dkwX7_seasons_1 : List UInt8 := [158, 0, 5, 3, 172, 42, 182, 1, 75, 42, 27, 4, 182, 1, 78, 172]
abbrev dktX7_seasons_1 : List UInt8 := dkwX7_seasons_1 ++ []
def dkwX7_seasons_0 : List UInt8 := [42, 27, 4, 16, 80, 184, 0, 48, 154, 0, 7, 4, 167, 0, 4, 3, 181, 0, 45, 42, 180, 0, 45]
abbrev dktX7_seasons_0 : List UInt8 := dkwX7_seasons_0 ++ dktX7_seasons_1
theorem dksX7_seasons_0 : cX7_seasons.data.toList.drop 0 = dktX7_seasons_0 := by decide +kernel
theorem dksX7_seasons_1 : cX7_seasons.data.toList.drop 23 = dktX7_seasons_1 := dk_seg dksX7_seasons_0 23 rfl rfl
theorem dX7_seasons_0 : decode cX7_seasons 0 = .ok (.aload_n 0, 1) := dk_42 (dk_at dksX7_seasons_0 0 rfl rfl)
theorem dX7_seasons_1 : decode cX7_seasons 1 = .ok (.iload_n 1, 1) := dk_27 (dk_at dksX7_seasons_0 1 rfl rfl)
theorem dX7_seasons_2 : decode cX7_seasons 2 = .ok (.iconst 1, 1) := dk_4 (dk_at dksX7_seasons_0 2 rfl rfl)
theorem dX7_seasons_3 : decode cX7_seasons 3 = .ok (.bipush 80, 2) := dk_16 80 (dk_at dksX7_seasons_0 3 rfl rfl)
theorem dX7_seasons_5 : decode cX7_seasons 5 = .ok (.invokestatic 48, 3) := dk_184 0 48 (dk_at dksX7_seasons_0 5 rfl rfl)
theorem dX7_seasons_8 : decode cX7_seasons 8 = .ok (.ifCond .ne 7, 3) := dk_154 0 7 (dk_at dksX7_seasons_0 8 rfl rfl)
theorem dX7_seasons_11 : decode cX7_seasons 11 = .ok (.iconst 1, 1) := dk_4 (dk_at dksX7_seasons_0 11 rfl rfl)
theorem dX7_seasons_12 : decode cX7_seasons 12 = .ok (.goto 4, 3) := dk_167 0 4 (dk_at dksX7_seasons_0 12 rfl rfl)
theorem dX7_seasons_15 : decode cX7_seasons 15 = .ok (.iconst 0, 1) := dk_3 (dk_at dksX7_seasons_0 15 rfl rfl)
theorem dX7_seasons_16 : decode cX7_seasons 16 = .ok (.putfield 45, 3) := dk_181 0 45 (dk_at dksX7_seasons_0 16 rfl rfl)
theorem dX7_seasons_19 : decode cX7_seasons 19 = .ok (.aload_n 0, 1) := dk_42 (dk_at dksX7_seasons_0 19 rfl rfl)
theorem dX7_seasons_20 : decode cX7_seasons 20 = .ok (.getfield 45, 3) := dk_180 0 45 (dk_at dksX7_seasons_0 20 rfl rfl)
theorem dX7_seasons_23 : decode cX7_seasons 23 = .ok (.ifCond .le 5, 3) := dk_158 0 5 (dk_at dksX7_seasons_1 0 rfl rfl)
theorem dX7_seasons_26 : decode cX7_seasons 26 = .ok (.iconst 0, 1) := dk_3 (dk_at dksX7_seasons_1 3 rfl rfl)
theorem dX7_seasons_27 : decode cX7_seasons 27 = .ok (.ireturn, 1) := dk_172 (dk_at dksX7_seasons_1 4 rfl rfl)
theorem dX7_seasons_28 : decode cX7_seasons 28 = .ok (.aload_n 0, 1) := dk_42 (dk_at dksX7_seasons_1 5 rfl rfl)
theorem dX7_seasons_29 : decode cX7_seasons 29 = .ok (.invokevirtual 331, 3) := dk_182 1 75 (dk_at dksX7_seasons_1 6 rfl rfl)
theorem dX7_seasons_32 : decode cX7_seasons 32 = .ok (.aload_n 0, 1) := dk_42 (dk_at dksX7_seasons_1 9 rfl rfl)
theorem dX7_seasons_33 : decode cX7_seasons 33 = .ok (.iload_n 1, 1) := dk_27 (dk_at dksX7_seasons_1 10 rfl rfl)
theorem dX7_seasons_34 : decode cX7_seasons 34 = .ok (.iconst 1, 1) := dk_4 (dk_at dksX7_seasons_1 11 rfl rfl)
theorem dX7_seasons_35 : decode cX7_seasons 35 = .ok (.invokevirtual 334, 3) := dk_182 1 78 (dk_at dksX7_seasons_1 12 rfl rfl)
theorem dX7_seasons_38 : decode cX7_seasons 38 = .ok (.ireturn, 1) := dk_172 (dk_at dksX7_seasons_1 15 rfl rfl)
abbrev cX7_remembers : ByteArray := prog_20_method_68_code
def yX7_remembers : MethodName := ⟨RX7, "remembers", "()V"⟩
def dkwX7_remembers_4 : List UInt8 := [181, 0, 212, 177]
abbrev dktX7_remembers_4 : List UInt8 := dkwX7_remembers_4 ++ []
def dkwX7_remembers_3 : List UInt8 := [27, 96, 42, 180, 0, 7, 27, 46, 79, 132, 1, 1, 167, 255, 225, 42, 89, 180, 0, 212, 4, 96]
abbrev dktX7_remembers_3 : List UInt8 := dkwX7_remembers_3 ++ dktX7_remembers_4
def dkwX7_remembers_2 : List UInt8 := [181, 0, 212, 3, 60, 27, 17, 1, 125, 162, 0, 30, 42, 180, 0, 19, 17, 1, 125, 42, 180, 0, 212, 104]
abbrev dktX7_remembers_2 : List UInt8 := dkwX7_remembers_2 ++ dktX7_remembers_3
def dkwX7_remembers_1 : List UInt8 := [180, 0, 19, 27, 17, 1, 125, 96, 46, 79, 132, 1, 1, 167, 255, 230, 42, 89, 180, 0, 212, 4, 100]
abbrev dktX7_remembers_1 : List UInt8 := dkwX7_remembers_1 ++ dktX7_remembers_2
def dkwX7_remembers_0 : List UInt8 := [42, 180, 0, 212, 16, 12, 160, 0, 44, 3, 60, 27, 17, 16, 95, 162, 0, 25, 42, 180, 0, 19, 27, 42]
abbrev dktX7_remembers_0 : List UInt8 := dkwX7_remembers_0 ++ dktX7_remembers_1
theorem dksX7_remembers_0 : cX7_remembers.data.toList.drop 0 = dktX7_remembers_0 := by decide +kernel
theorem dksX7_remembers_1 : cX7_remembers.data.toList.drop 24 = dktX7_remembers_1 := dk_seg dksX7_remembers_0 24 rfl rfl
theorem dksX7_remembers_2 : cX7_remembers.data.toList.drop 47 = dktX7_remembers_2 := dk_seg dksX7_remembers_1 23 rfl rfl
theorem dksX7_remembers_3 : cX7_remembers.data.toList.drop 71 = dktX7_remembers_3 := dk_seg dksX7_remembers_2 24 rfl rfl
theorem dksX7_remembers_4 : cX7_remembers.data.toList.drop 93 = dktX7_remembers_4 := dk_seg dksX7_remembers_3 22 rfl rfl
theorem dX7_remembers_0 : decode cX7_remembers 0 = .ok (.aload_n 0, 1) := dk_42 (dk_at dksX7_remembers_0 0 rfl rfl)
theorem dX7_remembers_1 : decode cX7_remembers 1 = .ok (.getfield 212, 3) := dk_180 0 212 (dk_at dksX7_remembers_0 1 rfl rfl)
theorem dX7_remembers_4 : decode cX7_remembers 4 = .ok (.bipush 12, 2) := dk_16 12 (dk_at dksX7_remembers_0 4 rfl rfl)
theorem dX7_remembers_6 : decode cX7_remembers 6 = .ok (.if_icmp .ne 44, 3) := dk_160 0 44 (dk_at dksX7_remembers_0 6 rfl rfl)
theorem dX7_remembers_9 : decode cX7_remembers 9 = .ok (.iconst 0, 1) := dk_3 (dk_at dksX7_remembers_0 9 rfl rfl)
theorem dX7_remembers_10 : decode cX7_remembers 10 = .ok (.istore_n 1, 1) := dk_60 (dk_at dksX7_remembers_0 10 rfl rfl)
theorem dX7_remembers_11 : decode cX7_remembers 11 = .ok (.iload_n 1, 1) := dk_27 (dk_at dksX7_remembers_0 11 rfl rfl)
theorem dX7_remembers_12 : decode cX7_remembers 12 = .ok (.sipush 4191, 3) := dk_17 16 95 (dk_at dksX7_remembers_0 12 rfl rfl)
theorem dX7_remembers_15 : decode cX7_remembers 15 = .ok (.if_icmp .ge 25, 3) := dk_162 0 25 (dk_at dksX7_remembers_0 15 rfl rfl)
theorem dX7_remembers_18 : decode cX7_remembers 18 = .ok (.aload_n 0, 1) := dk_42 (dk_at dksX7_remembers_0 18 rfl rfl)
theorem dX7_remembers_19 : decode cX7_remembers 19 = .ok (.getfield 19, 3) := dk_180 0 19 (dk_at dksX7_remembers_0 19 rfl rfl)
theorem dX7_remembers_22 : decode cX7_remembers 22 = .ok (.iload_n 1, 1) := dk_27 (dk_at dksX7_remembers_0 22 rfl rfl)
theorem dX7_remembers_23 : decode cX7_remembers 23 = .ok (.aload_n 0, 1) := dk_42 (dk_at dksX7_remembers_0 23 rfl rfl)
theorem dX7_remembers_24 : decode cX7_remembers 24 = .ok (.getfield 19, 3) := dk_180 0 19 (dk_at dksX7_remembers_1 0 rfl rfl)
theorem dX7_remembers_27 : decode cX7_remembers 27 = .ok (.iload_n 1, 1) := dk_27 (dk_at dksX7_remembers_1 3 rfl rfl)
theorem dX7_remembers_28 : decode cX7_remembers 28 = .ok (.sipush 381, 3) := dk_17 1 125 (dk_at dksX7_remembers_1 4 rfl rfl)
theorem dX7_remembers_31 : decode cX7_remembers 31 = .ok (.iadd, 1) := dk_96 (dk_at dksX7_remembers_1 7 rfl rfl)
theorem dX7_remembers_32 : decode cX7_remembers 32 = .ok (.iaload, 1) := dk_46 (dk_at dksX7_remembers_1 8 rfl rfl)
theorem dX7_remembers_33 : decode cX7_remembers 33 = .ok (.iastore, 1) := dk_79 (dk_at dksX7_remembers_1 9 rfl rfl)
theorem dX7_remembers_34 : decode cX7_remembers 34 = .ok (.iinc 1 1, 3) := dk_132 1 1 (dk_at dksX7_remembers_1 10 rfl rfl)
theorem dX7_remembers_37 : decode cX7_remembers 37 = .ok (.goto (-26), 3) := dk_167 255 230 (dk_at dksX7_remembers_1 13 rfl rfl)
theorem dX7_remembers_40 : decode cX7_remembers 40 = .ok (.aload_n 0, 1) := dk_42 (dk_at dksX7_remembers_1 16 rfl rfl)
theorem dX7_remembers_41 : decode cX7_remembers 41 = .ok (.dup, 1) := dk_89 (dk_at dksX7_remembers_1 17 rfl rfl)
theorem dX7_remembers_42 : decode cX7_remembers 42 = .ok (.getfield 212, 3) := dk_180 0 212 (dk_at dksX7_remembers_1 18 rfl rfl)
theorem dX7_remembers_45 : decode cX7_remembers 45 = .ok (.iconst 1, 1) := dk_4 (dk_at dksX7_remembers_1 21 rfl rfl)
theorem dX7_remembers_46 : decode cX7_remembers 46 = .ok (.isub, 1) := dk_100 (dk_at dksX7_remembers_1 22 rfl rfl)
theorem dX7_remembers_47 : decode cX7_remembers 47 = .ok (.putfield 212, 3) := dk_181 0 212 (dk_at dksX7_remembers_2 0 rfl rfl)
theorem dX7_remembers_50 : decode cX7_remembers 50 = .ok (.iconst 0, 1) := dk_3 (dk_at dksX7_remembers_2 3 rfl rfl)
theorem dX7_remembers_51 : decode cX7_remembers 51 = .ok (.istore_n 1, 1) := dk_60 (dk_at dksX7_remembers_2 4 rfl rfl)
theorem dX7_remembers_52 : decode cX7_remembers 52 = .ok (.iload_n 1, 1) := dk_27 (dk_at dksX7_remembers_2 5 rfl rfl)
theorem dX7_remembers_53 : decode cX7_remembers 53 = .ok (.sipush 381, 3) := dk_17 1 125 (dk_at dksX7_remembers_2 6 rfl rfl)
theorem dX7_remembers_56 : decode cX7_remembers 56 = .ok (.if_icmp .ge 30, 3) := dk_162 0 30 (dk_at dksX7_remembers_2 9 rfl rfl)
theorem dX7_remembers_59 : decode cX7_remembers 59 = .ok (.aload_n 0, 1) := dk_42 (dk_at dksX7_remembers_2 12 rfl rfl)
theorem dX7_remembers_60 : decode cX7_remembers 60 = .ok (.getfield 19, 3) := dk_180 0 19 (dk_at dksX7_remembers_2 13 rfl rfl)
theorem dX7_remembers_63 : decode cX7_remembers 63 = .ok (.sipush 381, 3) := dk_17 1 125 (dk_at dksX7_remembers_2 16 rfl rfl)
theorem dX7_remembers_66 : decode cX7_remembers 66 = .ok (.aload_n 0, 1) := dk_42 (dk_at dksX7_remembers_2 19 rfl rfl)
theorem dX7_remembers_67 : decode cX7_remembers 67 = .ok (.getfield 212, 3) := dk_180 0 212 (dk_at dksX7_remembers_2 20 rfl rfl)
theorem dX7_remembers_70 : decode cX7_remembers 70 = .ok (.imul, 1) := dk_104 (dk_at dksX7_remembers_2 23 rfl rfl)
theorem dX7_remembers_71 : decode cX7_remembers 71 = .ok (.iload_n 1, 1) := dk_27 (dk_at dksX7_remembers_3 0 rfl rfl)
theorem dX7_remembers_72 : decode cX7_remembers 72 = .ok (.iadd, 1) := dk_96 (dk_at dksX7_remembers_3 1 rfl rfl)
theorem dX7_remembers_73 : decode cX7_remembers 73 = .ok (.aload_n 0, 1) := dk_42 (dk_at dksX7_remembers_3 2 rfl rfl)
theorem dX7_remembers_74 : decode cX7_remembers 74 = .ok (.getfield 7, 3) := dk_180 0 7 (dk_at dksX7_remembers_3 3 rfl rfl)
theorem dX7_remembers_77 : decode cX7_remembers 77 = .ok (.iload_n 1, 1) := dk_27 (dk_at dksX7_remembers_3 6 rfl rfl)
theorem dX7_remembers_78 : decode cX7_remembers 78 = .ok (.iaload, 1) := dk_46 (dk_at dksX7_remembers_3 7 rfl rfl)
theorem dX7_remembers_79 : decode cX7_remembers 79 = .ok (.iastore, 1) := dk_79 (dk_at dksX7_remembers_3 8 rfl rfl)
theorem dX7_remembers_80 : decode cX7_remembers 80 = .ok (.iinc 1 1, 3) := dk_132 1 1 (dk_at dksX7_remembers_3 9 rfl rfl)
theorem dX7_remembers_83 : decode cX7_remembers 83 = .ok (.goto (-31), 3) := dk_167 255 225 (dk_at dksX7_remembers_3 12 rfl rfl)
theorem dX7_remembers_86 : decode cX7_remembers 86 = .ok (.aload_n 0, 1) := dk_42 (dk_at dksX7_remembers_3 15 rfl rfl)
theorem dX7_remembers_87 : decode cX7_remembers 87 = .ok (.dup, 1) := dk_89 (dk_at dksX7_remembers_3 16 rfl rfl)
theorem dX7_remembers_88 : decode cX7_remembers 88 = .ok (.getfield 212, 3) := dk_180 0 212 (dk_at dksX7_remembers_3 17 rfl rfl)
theorem dX7_remembers_91 : decode cX7_remembers 91 = .ok (.iconst 1, 1) := dk_4 (dk_at dksX7_remembers_3 20 rfl rfl)
theorem dX7_remembers_92 : decode cX7_remembers 92 = .ok (.iadd, 1) := dk_96 (dk_at dksX7_remembers_3 21 rfl rfl)
theorem dX7_remembers_93 : decode cX7_remembers 93 = .ok (.putfield 212, 3) := dk_181 0 212 (dk_at dksX7_remembers_4 0 rfl rfl)
theorem dX7_remembers_96 : decode cX7_remembers 96 = .ok (.return_, 1) := dk_177 (dk_at dksX7_remembers_4 3 rfl rfl)
abbrev cX7_goes : ByteArray := prog_20_method_59_code
def yX7_goes : MethodName := ⟨RX7, "goes", "(IZ)I"⟩
def dkwX7_goes_1 : List UInt8 := [167, 255, 239, 29, 172]
abbrev dktX7_goes_1 : List UInt8 := dkwX7_goes_1 ++ []
def dkwX7_goes_0 : List UInt8 := [3, 62, 3, 54, 4, 21, 4, 27, 162, 0, 17, 29, 42, 28, 182, 1, 44, 96, 62, 132, 4, 1]
abbrev dktX7_goes_0 : List UInt8 := dkwX7_goes_0 ++ dktX7_goes_1
theorem dksX7_goes_0 : cX7_goes.data.toList.drop 0 = dktX7_goes_0 := by decide +kernel
theorem dksX7_goes_1 : cX7_goes.data.toList.drop 22 = dktX7_goes_1 := dk_seg dksX7_goes_0 22 rfl rfl
theorem dX7_goes_0 : decode cX7_goes 0 = .ok (.iconst 0, 1) := dk_3 (dk_at dksX7_goes_0 0 rfl rfl)
theorem dX7_goes_1 : decode cX7_goes 1 = .ok (.istore_n 3, 1) := dk_62 (dk_at dksX7_goes_0 1 rfl rfl)
theorem dX7_goes_2 : decode cX7_goes 2 = .ok (.iconst 0, 1) := dk_3 (dk_at dksX7_goes_0 2 rfl rfl)
theorem dX7_goes_3 : decode cX7_goes 3 = .ok (.istore 4, 2) := dk_54 4 (dk_at dksX7_goes_0 3 rfl rfl)
theorem dX7_goes_5 : decode cX7_goes 5 = .ok (.iload 4, 2) := dk_21 4 (dk_at dksX7_goes_0 5 rfl rfl)
theorem dX7_goes_7 : decode cX7_goes 7 = .ok (.iload_n 1, 1) := dk_27 (dk_at dksX7_goes_0 7 rfl rfl)
theorem dX7_goes_8 : decode cX7_goes 8 = .ok (.if_icmp .ge 17, 3) := dk_162 0 17 (dk_at dksX7_goes_0 8 rfl rfl)
theorem dX7_goes_11 : decode cX7_goes 11 = .ok (.iload_n 3, 1) := dk_29 (dk_at dksX7_goes_0 11 rfl rfl)
theorem dX7_goes_12 : decode cX7_goes 12 = .ok (.aload_n 0, 1) := dk_42 (dk_at dksX7_goes_0 12 rfl rfl)
theorem dX7_goes_13 : decode cX7_goes 13 = .ok (.iload_n 2, 1) := dk_28 (dk_at dksX7_goes_0 13 rfl rfl)
theorem dX7_goes_14 : decode cX7_goes 14 = .ok (.invokevirtual 300, 3) := dk_182 1 44 (dk_at dksX7_goes_0 14 rfl rfl)
theorem dX7_goes_17 : decode cX7_goes 17 = .ok (.iadd, 1) := dk_96 (dk_at dksX7_goes_0 17 rfl rfl)
theorem dX7_goes_18 : decode cX7_goes 18 = .ok (.istore_n 3, 1) := dk_62 (dk_at dksX7_goes_0 18 rfl rfl)
theorem dX7_goes_19 : decode cX7_goes 19 = .ok (.iinc 4 1, 3) := dk_132 4 1 (dk_at dksX7_goes_0 19 rfl rfl)
theorem dX7_goes_22 : decode cX7_goes 22 = .ok (.goto (-17), 3) := dk_167 255 239 (dk_at dksX7_goes_1 0 rfl rfl)
theorem dX7_goes_25 : decode cX7_goes 25 = .ok (.iload_n 3, 1) := dk_29 (dk_at dksX7_goes_1 3 rfl rfl)
theorem dX7_goes_26 : decode cX7_goes 26 = .ok (.ireturn, 1) := dk_172 (dk_at dksX7_goes_1 4 rfl rfl)
abbrev cX7_write : ByteArray := prog_20_method_71_code
def yX7_write : MethodName := ⟨RX7, "write", "(IIIII)I"⟩
def dkwX7_write_4 : List UInt8 := [42, 27, 28, 29, 21, 4, 21, 5, 2, 2, 182, 0, 143, 42, 180, 0, 7, 8, 46, 4, 100, 172]
abbrev dktX7_write_4 : List UInt8 := dkwX7_write_4 ++ []
def dkwX7_write_3 : List UInt8 := [160, 0, 7, 6, 167, 0, 4, 3, 181, 0, 45, 42, 180, 0, 45, 158, 0, 5, 3, 172, 42, 182, 1, 75]
abbrev dktX7_write_3 : List UInt8 := dkwX7_write_3 ++ dktX7_write_4
def dkwX7_write_2 : List UInt8 := [21, 5, 3, 16, 20, 184, 0, 48, 154, 0, 7, 5, 167, 0, 19, 42, 180, 0, 7, 8, 46, 16, 8]
abbrev dktX7_write_2 : List UInt8 := dkwX7_write_2 ++ dktX7_write_3
def dkwX7_write_1 : List UInt8 := [154, 0, 7, 4, 167, 0, 50, 28, 29, 159, 0, 25, 21, 4, 3, 16, 99, 184, 0, 48, 153, 0, 14]
abbrev dktX7_write_1 : List UInt8 := dkwX7_write_1 ++ dktX7_write_2
def dkwX7_write_0 : List UInt8 := [42, 42, 27, 182, 1, 63, 153, 0, 19, 42, 28, 182, 1, 50, 153, 0, 11, 42, 29, 182, 1, 50]
abbrev dktX7_write_0 : List UInt8 := dkwX7_write_0 ++ dktX7_write_1
theorem dksX7_write_0 : cX7_write.data.toList.drop 0 = dktX7_write_0 := by decide +kernel
theorem dksX7_write_1 : cX7_write.data.toList.drop 22 = dktX7_write_1 := dk_seg dksX7_write_0 22 rfl rfl
theorem dksX7_write_2 : cX7_write.data.toList.drop 45 = dktX7_write_2 := dk_seg dksX7_write_1 23 rfl rfl
theorem dksX7_write_3 : cX7_write.data.toList.drop 68 = dktX7_write_3 := dk_seg dksX7_write_2 23 rfl rfl
theorem dksX7_write_4 : cX7_write.data.toList.drop 92 = dktX7_write_4 := dk_seg dksX7_write_3 24 rfl rfl
theorem dX7_write_0 : decode cX7_write 0 = .ok (.aload_n 0, 1) := dk_42 (dk_at dksX7_write_0 0 rfl rfl)
theorem dX7_write_1 : decode cX7_write 1 = .ok (.aload_n 0, 1) := dk_42 (dk_at dksX7_write_0 1 rfl rfl)
theorem dX7_write_2 : decode cX7_write 2 = .ok (.iload_n 1, 1) := dk_27 (dk_at dksX7_write_0 2 rfl rfl)
theorem dX7_write_3 : decode cX7_write 3 = .ok (.invokevirtual 319, 3) := dk_182 1 63 (dk_at dksX7_write_0 3 rfl rfl)
theorem dX7_write_6 : decode cX7_write 6 = .ok (.ifCond .eq 19, 3) := dk_153 0 19 (dk_at dksX7_write_0 6 rfl rfl)
theorem dX7_write_9 : decode cX7_write 9 = .ok (.aload_n 0, 1) := dk_42 (dk_at dksX7_write_0 9 rfl rfl)
theorem dX7_write_10 : decode cX7_write 10 = .ok (.iload_n 2, 1) := dk_28 (dk_at dksX7_write_0 10 rfl rfl)
theorem dX7_write_11 : decode cX7_write 11 = .ok (.invokevirtual 306, 3) := dk_182 1 50 (dk_at dksX7_write_0 11 rfl rfl)
theorem dX7_write_14 : decode cX7_write 14 = .ok (.ifCond .eq 11, 3) := dk_153 0 11 (dk_at dksX7_write_0 14 rfl rfl)
theorem dX7_write_17 : decode cX7_write 17 = .ok (.aload_n 0, 1) := dk_42 (dk_at dksX7_write_0 17 rfl rfl)
theorem dX7_write_18 : decode cX7_write 18 = .ok (.iload_n 3, 1) := dk_29 (dk_at dksX7_write_0 18 rfl rfl)
theorem dX7_write_19 : decode cX7_write 19 = .ok (.invokevirtual 306, 3) := dk_182 1 50 (dk_at dksX7_write_0 19 rfl rfl)
theorem dX7_write_22 : decode cX7_write 22 = .ok (.ifCond .ne 7, 3) := dk_154 0 7 (dk_at dksX7_write_1 0 rfl rfl)
theorem dX7_write_25 : decode cX7_write 25 = .ok (.iconst 1, 1) := dk_4 (dk_at dksX7_write_1 3 rfl rfl)
theorem dX7_write_26 : decode cX7_write 26 = .ok (.goto 50, 3) := dk_167 0 50 (dk_at dksX7_write_1 4 rfl rfl)
theorem dX7_write_29 : decode cX7_write 29 = .ok (.iload_n 2, 1) := dk_28 (dk_at dksX7_write_1 7 rfl rfl)
theorem dX7_write_30 : decode cX7_write 30 = .ok (.iload_n 3, 1) := dk_29 (dk_at dksX7_write_1 8 rfl rfl)
theorem dX7_write_31 : decode cX7_write 31 = .ok (.if_icmp .eq 25, 3) := dk_159 0 25 (dk_at dksX7_write_1 9 rfl rfl)
theorem dX7_write_34 : decode cX7_write 34 = .ok (.iload 4, 2) := dk_21 4 (dk_at dksX7_write_1 12 rfl rfl)
theorem dX7_write_36 : decode cX7_write 36 = .ok (.iconst 0, 1) := dk_3 (dk_at dksX7_write_1 14 rfl rfl)
theorem dX7_write_37 : decode cX7_write 37 = .ok (.bipush 99, 2) := dk_16 99 (dk_at dksX7_write_1 15 rfl rfl)
theorem dX7_write_39 : decode cX7_write 39 = .ok (.invokestatic 48, 3) := dk_184 0 48 (dk_at dksX7_write_1 17 rfl rfl)
theorem dX7_write_42 : decode cX7_write 42 = .ok (.ifCond .eq 14, 3) := dk_153 0 14 (dk_at dksX7_write_1 20 rfl rfl)
theorem dX7_write_45 : decode cX7_write 45 = .ok (.iload 5, 2) := dk_21 5 (dk_at dksX7_write_2 0 rfl rfl)
theorem dX7_write_47 : decode cX7_write 47 = .ok (.iconst 0, 1) := dk_3 (dk_at dksX7_write_2 2 rfl rfl)
theorem dX7_write_48 : decode cX7_write 48 = .ok (.bipush 20, 2) := dk_16 20 (dk_at dksX7_write_2 3 rfl rfl)
theorem dX7_write_50 : decode cX7_write 50 = .ok (.invokestatic 48, 3) := dk_184 0 48 (dk_at dksX7_write_2 5 rfl rfl)
theorem dX7_write_53 : decode cX7_write 53 = .ok (.ifCond .ne 7, 3) := dk_154 0 7 (dk_at dksX7_write_2 8 rfl rfl)
theorem dX7_write_56 : decode cX7_write 56 = .ok (.iconst 2, 1) := dk_5 (dk_at dksX7_write_2 11 rfl rfl)
theorem dX7_write_57 : decode cX7_write 57 = .ok (.goto 19, 3) := dk_167 0 19 (dk_at dksX7_write_2 12 rfl rfl)
theorem dX7_write_60 : decode cX7_write 60 = .ok (.aload_n 0, 1) := dk_42 (dk_at dksX7_write_2 15 rfl rfl)
theorem dX7_write_61 : decode cX7_write 61 = .ok (.getfield 7, 3) := dk_180 0 7 (dk_at dksX7_write_2 16 rfl rfl)
theorem dX7_write_64 : decode cX7_write 64 = .ok (.iconst 5, 1) := dk_8 (dk_at dksX7_write_2 19 rfl rfl)
theorem dX7_write_65 : decode cX7_write 65 = .ok (.iaload, 1) := dk_46 (dk_at dksX7_write_2 20 rfl rfl)
theorem dX7_write_66 : decode cX7_write 66 = .ok (.bipush 8, 2) := dk_16 8 (dk_at dksX7_write_2 21 rfl rfl)
theorem dX7_write_68 : decode cX7_write 68 = .ok (.if_icmp .ne 7, 3) := dk_160 0 7 (dk_at dksX7_write_3 0 rfl rfl)
theorem dX7_write_71 : decode cX7_write 71 = .ok (.iconst 3, 1) := dk_6 (dk_at dksX7_write_3 3 rfl rfl)
theorem dX7_write_72 : decode cX7_write 72 = .ok (.goto 4, 3) := dk_167 0 4 (dk_at dksX7_write_3 4 rfl rfl)
theorem dX7_write_75 : decode cX7_write 75 = .ok (.iconst 0, 1) := dk_3 (dk_at dksX7_write_3 7 rfl rfl)
theorem dX7_write_76 : decode cX7_write 76 = .ok (.putfield 45, 3) := dk_181 0 45 (dk_at dksX7_write_3 8 rfl rfl)
theorem dX7_write_79 : decode cX7_write 79 = .ok (.aload_n 0, 1) := dk_42 (dk_at dksX7_write_3 11 rfl rfl)
theorem dX7_write_80 : decode cX7_write 80 = .ok (.getfield 45, 3) := dk_180 0 45 (dk_at dksX7_write_3 12 rfl rfl)
theorem dX7_write_83 : decode cX7_write 83 = .ok (.ifCond .le 5, 3) := dk_158 0 5 (dk_at dksX7_write_3 15 rfl rfl)
theorem dX7_write_86 : decode cX7_write 86 = .ok (.iconst 0, 1) := dk_3 (dk_at dksX7_write_3 18 rfl rfl)
theorem dX7_write_87 : decode cX7_write 87 = .ok (.ireturn, 1) := dk_172 (dk_at dksX7_write_3 19 rfl rfl)
theorem dX7_write_88 : decode cX7_write 88 = .ok (.aload_n 0, 1) := dk_42 (dk_at dksX7_write_3 20 rfl rfl)
theorem dX7_write_89 : decode cX7_write 89 = .ok (.invokevirtual 331, 3) := dk_182 1 75 (dk_at dksX7_write_3 21 rfl rfl)
theorem dX7_write_92 : decode cX7_write 92 = .ok (.aload_n 0, 1) := dk_42 (dk_at dksX7_write_4 0 rfl rfl)
theorem dX7_write_93 : decode cX7_write 93 = .ok (.iload_n 1, 1) := dk_27 (dk_at dksX7_write_4 1 rfl rfl)
theorem dX7_write_94 : decode cX7_write 94 = .ok (.iload_n 2, 1) := dk_28 (dk_at dksX7_write_4 2 rfl rfl)
theorem dX7_write_95 : decode cX7_write 95 = .ok (.iload_n 3, 1) := dk_29 (dk_at dksX7_write_4 3 rfl rfl)
theorem dX7_write_96 : decode cX7_write 96 = .ok (.iload 4, 2) := dk_21 4 (dk_at dksX7_write_4 4 rfl rfl)
theorem dX7_write_98 : decode cX7_write 98 = .ok (.iload 5, 2) := dk_21 5 (dk_at dksX7_write_4 6 rfl rfl)
theorem dX7_write_100 : decode cX7_write 100 = .ok (.iconst (-1), 1) := dk_2 (dk_at dksX7_write_4 8 rfl rfl)
theorem dX7_write_101 : decode cX7_write 101 = .ok (.iconst (-1), 1) := dk_2 (dk_at dksX7_write_4 9 rfl rfl)
theorem dX7_write_102 : decode cX7_write 102 = .ok (.invokevirtual 143, 3) := dk_182 0 143 (dk_at dksX7_write_4 10 rfl rfl)
theorem dX7_write_105 : decode cX7_write 105 = .ok (.aload_n 0, 1) := dk_42 (dk_at dksX7_write_4 13 rfl rfl)
theorem dX7_write_106 : decode cX7_write 106 = .ok (.getfield 7, 3) := dk_180 0 7 (dk_at dksX7_write_4 14 rfl rfl)
theorem dX7_write_109 : decode cX7_write 109 = .ok (.iconst 5, 1) := dk_8 (dk_at dksX7_write_4 17 rfl rfl)
theorem dX7_write_110 : decode cX7_write 110 = .ok (.iaload, 1) := dk_46 (dk_at dksX7_write_4 18 rfl rfl)
theorem dX7_write_111 : decode cX7_write 111 = .ok (.iconst 1, 1) := dk_4 (dk_at dksX7_write_4 19 rfl rfl)
theorem dX7_write_112 : decode cX7_write 112 = .ok (.isub, 1) := dk_100 (dk_at dksX7_write_4 20 rfl rfl)
theorem dX7_write_113 : decode cX7_write 113 = .ok (.ireturn, 1) := dk_172 (dk_at dksX7_write_4 21 rfl rfl)
abbrev cX7_warm : ByteArray := prog_20_method_72_code
def yX7_warm : MethodName := ⟨RX7, "warm", "(II)I"⟩
def dkwX7_warm_7 : List UInt8 := [182, 1, 26, 172]
abbrev dktX7_warm_7 : List UInt8 := dkwX7_warm_7 ++ []
def dkwX7_warm_6 : List UInt8 := [46, 162, 0, 21, 42, 21, 4, 16, 8, 42, 21, 4, 16, 8, 182, 0, 52, 5, 108, 182, 0, 147, 42, 28]
abbrev dktX7_warm_6 : List UInt8 := dkwX7_warm_6 ++ dktX7_warm_7
def dkwX7_warm_5 : List UInt8 := [42, 21, 4, 16, 10, 182, 0, 52, 153, 0, 9, 132, 4, 1, 167, 255, 231, 21, 4, 42, 180, 0, 7, 8]
abbrev dktX7_warm_5 : List UInt8 := dkwX7_warm_5 ++ dktX7_warm_6
def dkwX7_warm_4 : List UInt8 := [29, 100, 79, 42, 27, 182, 1, 35, 27, 4, 96, 54, 4, 21, 4, 42, 180, 0, 7, 8, 46, 162, 0, 20]
abbrev dktX7_warm_4 : List UInt8 := dkwX7_warm_4 ++ dktX7_warm_5
def dkwX7_warm_3 : List UInt8 := [180, 0, 45, 158, 0, 5, 3, 172, 42, 182, 1, 75, 42, 180, 0, 7, 16, 15, 5, 28, 104, 96, 92, 46]
abbrev dktX7_warm_3 : List UInt8 := dkwX7_warm_3 ++ dktX7_warm_4
def dkwX7_warm_2 : List UInt8 := [182, 0, 52, 154, 0, 12, 42, 28, 182, 1, 26, 29, 162, 0, 7, 5, 167, 0, 4, 3, 181, 0, 45, 42]
abbrev dktX7_warm_2 : List UInt8 := dkwX7_warm_2 ++ dktX7_warm_3
def dkwX7_warm_1 : List UInt8 := [181, 0, 45, 42, 180, 0, 45, 158, 0, 5, 3, 172, 42, 27, 182, 1, 81, 62, 42, 42, 27, 16, 10]
abbrev dktX7_warm_1 : List UInt8 := dkwX7_warm_1 ++ dktX7_warm_2
def dkwX7_warm_0 : List UInt8 := [42, 42, 27, 182, 1, 69, 153, 0, 11, 42, 28, 182, 1, 50, 154, 0, 7, 4, 167, 0, 4, 3]
abbrev dktX7_warm_0 : List UInt8 := dkwX7_warm_0 ++ dktX7_warm_1
theorem dksX7_warm_0 : cX7_warm.data.toList.drop 0 = dktX7_warm_0 := by decide +kernel
theorem dksX7_warm_1 : cX7_warm.data.toList.drop 22 = dktX7_warm_1 := dk_seg dksX7_warm_0 22 rfl rfl
theorem dksX7_warm_2 : cX7_warm.data.toList.drop 45 = dktX7_warm_2 := dk_seg dksX7_warm_1 23 rfl rfl
theorem dksX7_warm_3 : cX7_warm.data.toList.drop 69 = dktX7_warm_3 := dk_seg dksX7_warm_2 24 rfl rfl
theorem dksX7_warm_4 : cX7_warm.data.toList.drop 93 = dktX7_warm_4 := dk_seg dksX7_warm_3 24 rfl rfl
theorem dksX7_warm_5 : cX7_warm.data.toList.drop 117 = dktX7_warm_5 := dk_seg dksX7_warm_4 24 rfl rfl
theorem dksX7_warm_6 : cX7_warm.data.toList.drop 141 = dktX7_warm_6 := dk_seg dksX7_warm_5 24 rfl rfl
theorem dksX7_warm_7 : cX7_warm.data.toList.drop 165 = dktX7_warm_7 := dk_seg dksX7_warm_6 24 rfl rfl
theorem dX7_warm_0 : decode cX7_warm 0 = .ok (.aload_n 0, 1) := dk_42 (dk_at dksX7_warm_0 0 rfl rfl)
theorem dX7_warm_1 : decode cX7_warm 1 = .ok (.aload_n 0, 1) := dk_42 (dk_at dksX7_warm_0 1 rfl rfl)
theorem dX7_warm_2 : decode cX7_warm 2 = .ok (.iload_n 1, 1) := dk_27 (dk_at dksX7_warm_0 2 rfl rfl)
theorem dX7_warm_3 : decode cX7_warm 3 = .ok (.invokevirtual 325, 3) := dk_182 1 69 (dk_at dksX7_warm_0 3 rfl rfl)
theorem dX7_warm_6 : decode cX7_warm 6 = .ok (.ifCond .eq 11, 3) := dk_153 0 11 (dk_at dksX7_warm_0 6 rfl rfl)
theorem dX7_warm_9 : decode cX7_warm 9 = .ok (.aload_n 0, 1) := dk_42 (dk_at dksX7_warm_0 9 rfl rfl)
theorem dX7_warm_10 : decode cX7_warm 10 = .ok (.iload_n 2, 1) := dk_28 (dk_at dksX7_warm_0 10 rfl rfl)
theorem dX7_warm_11 : decode cX7_warm 11 = .ok (.invokevirtual 306, 3) := dk_182 1 50 (dk_at dksX7_warm_0 11 rfl rfl)
theorem dX7_warm_14 : decode cX7_warm 14 = .ok (.ifCond .ne 7, 3) := dk_154 0 7 (dk_at dksX7_warm_0 14 rfl rfl)
theorem dX7_warm_17 : decode cX7_warm 17 = .ok (.iconst 1, 1) := dk_4 (dk_at dksX7_warm_0 17 rfl rfl)
theorem dX7_warm_18 : decode cX7_warm 18 = .ok (.goto 4, 3) := dk_167 0 4 (dk_at dksX7_warm_0 18 rfl rfl)
theorem dX7_warm_21 : decode cX7_warm 21 = .ok (.iconst 0, 1) := dk_3 (dk_at dksX7_warm_0 21 rfl rfl)
theorem dX7_warm_22 : decode cX7_warm 22 = .ok (.putfield 45, 3) := dk_181 0 45 (dk_at dksX7_warm_1 0 rfl rfl)
theorem dX7_warm_25 : decode cX7_warm 25 = .ok (.aload_n 0, 1) := dk_42 (dk_at dksX7_warm_1 3 rfl rfl)
theorem dX7_warm_26 : decode cX7_warm 26 = .ok (.getfield 45, 3) := dk_180 0 45 (dk_at dksX7_warm_1 4 rfl rfl)
theorem dX7_warm_29 : decode cX7_warm 29 = .ok (.ifCond .le 5, 3) := dk_158 0 5 (dk_at dksX7_warm_1 7 rfl rfl)
theorem dX7_warm_32 : decode cX7_warm 32 = .ok (.iconst 0, 1) := dk_3 (dk_at dksX7_warm_1 10 rfl rfl)
theorem dX7_warm_33 : decode cX7_warm 33 = .ok (.ireturn, 1) := dk_172 (dk_at dksX7_warm_1 11 rfl rfl)
theorem dX7_warm_34 : decode cX7_warm 34 = .ok (.aload_n 0, 1) := dk_42 (dk_at dksX7_warm_1 12 rfl rfl)
theorem dX7_warm_35 : decode cX7_warm 35 = .ok (.iload_n 1, 1) := dk_27 (dk_at dksX7_warm_1 13 rfl rfl)
theorem dX7_warm_36 : decode cX7_warm 36 = .ok (.invokevirtual 337, 3) := dk_182 1 81 (dk_at dksX7_warm_1 14 rfl rfl)
theorem dX7_warm_39 : decode cX7_warm 39 = .ok (.istore_n 3, 1) := dk_62 (dk_at dksX7_warm_1 17 rfl rfl)
theorem dX7_warm_40 : decode cX7_warm 40 = .ok (.aload_n 0, 1) := dk_42 (dk_at dksX7_warm_1 18 rfl rfl)
theorem dX7_warm_41 : decode cX7_warm 41 = .ok (.aload_n 0, 1) := dk_42 (dk_at dksX7_warm_1 19 rfl rfl)
theorem dX7_warm_42 : decode cX7_warm 42 = .ok (.iload_n 1, 1) := dk_27 (dk_at dksX7_warm_1 20 rfl rfl)
theorem dX7_warm_43 : decode cX7_warm 43 = .ok (.bipush 10, 2) := dk_16 10 (dk_at dksX7_warm_1 21 rfl rfl)
theorem dX7_warm_45 : decode cX7_warm 45 = .ok (.invokevirtual 52, 3) := dk_182 0 52 (dk_at dksX7_warm_2 0 rfl rfl)
theorem dX7_warm_48 : decode cX7_warm 48 = .ok (.ifCond .ne 12, 3) := dk_154 0 12 (dk_at dksX7_warm_2 3 rfl rfl)
theorem dX7_warm_51 : decode cX7_warm 51 = .ok (.aload_n 0, 1) := dk_42 (dk_at dksX7_warm_2 6 rfl rfl)
theorem dX7_warm_52 : decode cX7_warm 52 = .ok (.iload_n 2, 1) := dk_28 (dk_at dksX7_warm_2 7 rfl rfl)
theorem dX7_warm_53 : decode cX7_warm 53 = .ok (.invokevirtual 282, 3) := dk_182 1 26 (dk_at dksX7_warm_2 8 rfl rfl)
theorem dX7_warm_56 : decode cX7_warm 56 = .ok (.iload_n 3, 1) := dk_29 (dk_at dksX7_warm_2 11 rfl rfl)
theorem dX7_warm_57 : decode cX7_warm 57 = .ok (.if_icmp .ge 7, 3) := dk_162 0 7 (dk_at dksX7_warm_2 12 rfl rfl)
theorem dX7_warm_60 : decode cX7_warm 60 = .ok (.iconst 2, 1) := dk_5 (dk_at dksX7_warm_2 15 rfl rfl)
theorem dX7_warm_61 : decode cX7_warm 61 = .ok (.goto 4, 3) := dk_167 0 4 (dk_at dksX7_warm_2 16 rfl rfl)
theorem dX7_warm_64 : decode cX7_warm 64 = .ok (.iconst 0, 1) := dk_3 (dk_at dksX7_warm_2 19 rfl rfl)
theorem dX7_warm_65 : decode cX7_warm 65 = .ok (.putfield 45, 3) := dk_181 0 45 (dk_at dksX7_warm_2 20 rfl rfl)
theorem dX7_warm_68 : decode cX7_warm 68 = .ok (.aload_n 0, 1) := dk_42 (dk_at dksX7_warm_2 23 rfl rfl)
theorem dX7_warm_69 : decode cX7_warm 69 = .ok (.getfield 45, 3) := dk_180 0 45 (dk_at dksX7_warm_3 0 rfl rfl)
theorem dX7_warm_72 : decode cX7_warm 72 = .ok (.ifCond .le 5, 3) := dk_158 0 5 (dk_at dksX7_warm_3 3 rfl rfl)
theorem dX7_warm_75 : decode cX7_warm 75 = .ok (.iconst 0, 1) := dk_3 (dk_at dksX7_warm_3 6 rfl rfl)
theorem dX7_warm_76 : decode cX7_warm 76 = .ok (.ireturn, 1) := dk_172 (dk_at dksX7_warm_3 7 rfl rfl)
theorem dX7_warm_77 : decode cX7_warm 77 = .ok (.aload_n 0, 1) := dk_42 (dk_at dksX7_warm_3 8 rfl rfl)
theorem dX7_warm_78 : decode cX7_warm 78 = .ok (.invokevirtual 331, 3) := dk_182 1 75 (dk_at dksX7_warm_3 9 rfl rfl)
theorem dX7_warm_81 : decode cX7_warm 81 = .ok (.aload_n 0, 1) := dk_42 (dk_at dksX7_warm_3 12 rfl rfl)
theorem dX7_warm_82 : decode cX7_warm 82 = .ok (.getfield 7, 3) := dk_180 0 7 (dk_at dksX7_warm_3 13 rfl rfl)
theorem dX7_warm_85 : decode cX7_warm 85 = .ok (.bipush 15, 2) := dk_16 15 (dk_at dksX7_warm_3 16 rfl rfl)
theorem dX7_warm_87 : decode cX7_warm 87 = .ok (.iconst 2, 1) := dk_5 (dk_at dksX7_warm_3 18 rfl rfl)
theorem dX7_warm_88 : decode cX7_warm 88 = .ok (.iload_n 2, 1) := dk_28 (dk_at dksX7_warm_3 19 rfl rfl)
theorem dX7_warm_89 : decode cX7_warm 89 = .ok (.imul, 1) := dk_104 (dk_at dksX7_warm_3 20 rfl rfl)
theorem dX7_warm_90 : decode cX7_warm 90 = .ok (.iadd, 1) := dk_96 (dk_at dksX7_warm_3 21 rfl rfl)
theorem dX7_warm_91 : decode cX7_warm 91 = .ok (.dup2, 1) := dk_92 (dk_at dksX7_warm_3 22 rfl rfl)
theorem dX7_warm_92 : decode cX7_warm 92 = .ok (.iaload, 1) := dk_46 (dk_at dksX7_warm_3 23 rfl rfl)
theorem dX7_warm_93 : decode cX7_warm 93 = .ok (.iload_n 3, 1) := dk_29 (dk_at dksX7_warm_4 0 rfl rfl)
theorem dX7_warm_94 : decode cX7_warm 94 = .ok (.isub, 1) := dk_100 (dk_at dksX7_warm_4 1 rfl rfl)
theorem dX7_warm_95 : decode cX7_warm 95 = .ok (.iastore, 1) := dk_79 (dk_at dksX7_warm_4 2 rfl rfl)
theorem dX7_warm_96 : decode cX7_warm 96 = .ok (.aload_n 0, 1) := dk_42 (dk_at dksX7_warm_4 3 rfl rfl)
theorem dX7_warm_97 : decode cX7_warm 97 = .ok (.iload_n 1, 1) := dk_27 (dk_at dksX7_warm_4 4 rfl rfl)
theorem dX7_warm_98 : decode cX7_warm 98 = .ok (.invokevirtual 291, 3) := dk_182 1 35 (dk_at dksX7_warm_4 5 rfl rfl)
theorem dX7_warm_101 : decode cX7_warm 101 = .ok (.iload_n 1, 1) := dk_27 (dk_at dksX7_warm_4 8 rfl rfl)
theorem dX7_warm_102 : decode cX7_warm 102 = .ok (.iconst 1, 1) := dk_4 (dk_at dksX7_warm_4 9 rfl rfl)
theorem dX7_warm_103 : decode cX7_warm 103 = .ok (.iadd, 1) := dk_96 (dk_at dksX7_warm_4 10 rfl rfl)
theorem dX7_warm_104 : decode cX7_warm 104 = .ok (.istore 4, 2) := dk_54 4 (dk_at dksX7_warm_4 11 rfl rfl)
theorem dX7_warm_106 : decode cX7_warm 106 = .ok (.iload 4, 2) := dk_21 4 (dk_at dksX7_warm_4 13 rfl rfl)
theorem dX7_warm_108 : decode cX7_warm 108 = .ok (.aload_n 0, 1) := dk_42 (dk_at dksX7_warm_4 15 rfl rfl)
theorem dX7_warm_109 : decode cX7_warm 109 = .ok (.getfield 7, 3) := dk_180 0 7 (dk_at dksX7_warm_4 16 rfl rfl)
theorem dX7_warm_112 : decode cX7_warm 112 = .ok (.iconst 5, 1) := dk_8 (dk_at dksX7_warm_4 19 rfl rfl)
theorem dX7_warm_113 : decode cX7_warm 113 = .ok (.iaload, 1) := dk_46 (dk_at dksX7_warm_4 20 rfl rfl)
theorem dX7_warm_114 : decode cX7_warm 114 = .ok (.if_icmp .ge 20, 3) := dk_162 0 20 (dk_at dksX7_warm_4 21 rfl rfl)
theorem dX7_warm_117 : decode cX7_warm 117 = .ok (.aload_n 0, 1) := dk_42 (dk_at dksX7_warm_5 0 rfl rfl)
theorem dX7_warm_118 : decode cX7_warm 118 = .ok (.iload 4, 2) := dk_21 4 (dk_at dksX7_warm_5 1 rfl rfl)
theorem dX7_warm_120 : decode cX7_warm 120 = .ok (.bipush 10, 2) := dk_16 10 (dk_at dksX7_warm_5 3 rfl rfl)
theorem dX7_warm_122 : decode cX7_warm 122 = .ok (.invokevirtual 52, 3) := dk_182 0 52 (dk_at dksX7_warm_5 5 rfl rfl)
theorem dX7_warm_125 : decode cX7_warm 125 = .ok (.ifCond .eq 9, 3) := dk_153 0 9 (dk_at dksX7_warm_5 8 rfl rfl)
theorem dX7_warm_128 : decode cX7_warm 128 = .ok (.iinc 4 1, 3) := dk_132 4 1 (dk_at dksX7_warm_5 11 rfl rfl)
theorem dX7_warm_131 : decode cX7_warm 131 = .ok (.goto (-25), 3) := dk_167 255 231 (dk_at dksX7_warm_5 14 rfl rfl)
theorem dX7_warm_134 : decode cX7_warm 134 = .ok (.iload 4, 2) := dk_21 4 (dk_at dksX7_warm_5 17 rfl rfl)
theorem dX7_warm_136 : decode cX7_warm 136 = .ok (.aload_n 0, 1) := dk_42 (dk_at dksX7_warm_5 19 rfl rfl)
theorem dX7_warm_137 : decode cX7_warm 137 = .ok (.getfield 7, 3) := dk_180 0 7 (dk_at dksX7_warm_5 20 rfl rfl)
theorem dX7_warm_140 : decode cX7_warm 140 = .ok (.iconst 5, 1) := dk_8 (dk_at dksX7_warm_5 23 rfl rfl)
theorem dX7_warm_141 : decode cX7_warm 141 = .ok (.iaload, 1) := dk_46 (dk_at dksX7_warm_6 0 rfl rfl)
theorem dX7_warm_142 : decode cX7_warm 142 = .ok (.if_icmp .ge 21, 3) := dk_162 0 21 (dk_at dksX7_warm_6 1 rfl rfl)
theorem dX7_warm_145 : decode cX7_warm 145 = .ok (.aload_n 0, 1) := dk_42 (dk_at dksX7_warm_6 4 rfl rfl)
theorem dX7_warm_146 : decode cX7_warm 146 = .ok (.iload 4, 2) := dk_21 4 (dk_at dksX7_warm_6 5 rfl rfl)
theorem dX7_warm_148 : decode cX7_warm 148 = .ok (.bipush 8, 2) := dk_16 8 (dk_at dksX7_warm_6 7 rfl rfl)
theorem dX7_warm_150 : decode cX7_warm 150 = .ok (.aload_n 0, 1) := dk_42 (dk_at dksX7_warm_6 9 rfl rfl)
theorem dX7_warm_151 : decode cX7_warm 151 = .ok (.iload 4, 2) := dk_21 4 (dk_at dksX7_warm_6 10 rfl rfl)
theorem dX7_warm_153 : decode cX7_warm 153 = .ok (.bipush 8, 2) := dk_16 8 (dk_at dksX7_warm_6 12 rfl rfl)
theorem dX7_warm_155 : decode cX7_warm 155 = .ok (.invokevirtual 52, 3) := dk_182 0 52 (dk_at dksX7_warm_6 14 rfl rfl)
theorem dX7_warm_158 : decode cX7_warm 158 = .ok (.iconst 2, 1) := dk_5 (dk_at dksX7_warm_6 17 rfl rfl)
theorem dX7_warm_159 : decode cX7_warm 159 = .ok (.idiv, 1) := dk_108 (dk_at dksX7_warm_6 18 rfl rfl)
theorem dX7_warm_160 : decode cX7_warm 160 = .ok (.invokevirtual 147, 3) := dk_182 0 147 (dk_at dksX7_warm_6 19 rfl rfl)
theorem dX7_warm_163 : decode cX7_warm 163 = .ok (.aload_n 0, 1) := dk_42 (dk_at dksX7_warm_6 22 rfl rfl)
theorem dX7_warm_164 : decode cX7_warm 164 = .ok (.iload_n 2, 1) := dk_28 (dk_at dksX7_warm_6 23 rfl rfl)
theorem dX7_warm_165 : decode cX7_warm 165 = .ok (.invokevirtual 282, 3) := dk_182 1 26 (dk_at dksX7_warm_7 0 rfl rfl)
theorem dX7_warm_168 : decode cX7_warm 168 = .ok (.ireturn, 1) := dk_172 (dk_at dksX7_warm_7 3 rfl rfl)
abbrev cX7_costsOf : ByteArray := prog_20_method_53_code
def yX7_costsOf : MethodName := ⟨RX7, "costsOf", "(I)I"⟩
def dkwX7_costsOf_0 : List UInt8 := [42, 27, 182, 1, 16, 42, 180, 1, 7, 172]
abbrev dktX7_costsOf_0 : List UInt8 := dkwX7_costsOf_0 ++ []
theorem dksX7_costsOf_0 : cX7_costsOf.data.toList.drop 0 = dktX7_costsOf_0 := by decide +kernel
theorem dX7_costsOf_0 : decode cX7_costsOf 0 = .ok (.aload_n 0, 1) := dk_42 (dk_at dksX7_costsOf_0 0 rfl rfl)
theorem dX7_costsOf_1 : decode cX7_costsOf 1 = .ok (.iload_n 1, 1) := dk_27 (dk_at dksX7_costsOf_0 1 rfl rfl)
theorem dX7_costsOf_2 : decode cX7_costsOf 2 = .ok (.invokevirtual 272, 3) := dk_182 1 16 (dk_at dksX7_costsOf_0 2 rfl rfl)
theorem dX7_costsOf_5 : decode cX7_costsOf 5 = .ok (.aload_n 0, 1) := dk_42 (dk_at dksX7_costsOf_0 5 rfl rfl)
theorem dX7_costsOf_6 : decode cX7_costsOf 6 = .ok (.getfield 263, 3) := dk_180 1 7 (dk_at dksX7_costsOf_0 6 rfl rfl)
theorem dX7_costsOf_9 : decode cX7_costsOf 9 = .ok (.ireturn, 1) := dk_172 (dk_at dksX7_costsOf_0 9 rfl rfl)
abbrev cX7_burn : ByteArray := prog_20_method_73_code
def yX7_burn : MethodName := ⟨RX7, "burn", "(I)I"⟩
def dkwX7_burn_3 : List UInt8 := [42, 27, 7, 3, 182, 1, 23, 28, 172]
abbrev dktX7_burn_3 : List UInt8 := dkwX7_burn_3 ++ []
def dkwX7_burn_2 : List UInt8 := [180, 0, 45, 158, 0, 5, 3, 172, 42, 16, 45, 16, 12, 27, 104, 96, 16, 10, 96, 6, 182, 1, 84, 61]
abbrev dktX7_burn_2 : List UInt8 := dkwX7_burn_2 ++ dktX7_burn_3
def dkwX7_burn_1 : List UInt8 := [3, 172, 42, 42, 27, 16, 10, 182, 0, 52, 6, 160, 0, 7, 5, 167, 0, 4, 3, 181, 0, 45, 42]
abbrev dktX7_burn_1 : List UInt8 := dkwX7_burn_1 ++ dktX7_burn_2
def dkwX7_burn_0 : List UInt8 := [42, 42, 27, 182, 1, 69, 154, 0, 7, 4, 167, 0, 4, 3, 181, 0, 45, 42, 180, 0, 45, 158, 0, 5]
abbrev dktX7_burn_0 : List UInt8 := dkwX7_burn_0 ++ dktX7_burn_1
theorem dksX7_burn_0 : cX7_burn.data.toList.drop 0 = dktX7_burn_0 := by decide +kernel
theorem dksX7_burn_1 : cX7_burn.data.toList.drop 24 = dktX7_burn_1 := dk_seg dksX7_burn_0 24 rfl rfl
theorem dksX7_burn_2 : cX7_burn.data.toList.drop 47 = dktX7_burn_2 := dk_seg dksX7_burn_1 23 rfl rfl
theorem dksX7_burn_3 : cX7_burn.data.toList.drop 71 = dktX7_burn_3 := dk_seg dksX7_burn_2 24 rfl rfl
theorem dX7_burn_0 : decode cX7_burn 0 = .ok (.aload_n 0, 1) := dk_42 (dk_at dksX7_burn_0 0 rfl rfl)
theorem dX7_burn_1 : decode cX7_burn 1 = .ok (.aload_n 0, 1) := dk_42 (dk_at dksX7_burn_0 1 rfl rfl)
theorem dX7_burn_2 : decode cX7_burn 2 = .ok (.iload_n 1, 1) := dk_27 (dk_at dksX7_burn_0 2 rfl rfl)
theorem dX7_burn_3 : decode cX7_burn 3 = .ok (.invokevirtual 325, 3) := dk_182 1 69 (dk_at dksX7_burn_0 3 rfl rfl)
theorem dX7_burn_6 : decode cX7_burn 6 = .ok (.ifCond .ne 7, 3) := dk_154 0 7 (dk_at dksX7_burn_0 6 rfl rfl)
theorem dX7_burn_9 : decode cX7_burn 9 = .ok (.iconst 1, 1) := dk_4 (dk_at dksX7_burn_0 9 rfl rfl)
theorem dX7_burn_10 : decode cX7_burn 10 = .ok (.goto 4, 3) := dk_167 0 4 (dk_at dksX7_burn_0 10 rfl rfl)
theorem dX7_burn_13 : decode cX7_burn 13 = .ok (.iconst 0, 1) := dk_3 (dk_at dksX7_burn_0 13 rfl rfl)
theorem dX7_burn_14 : decode cX7_burn 14 = .ok (.putfield 45, 3) := dk_181 0 45 (dk_at dksX7_burn_0 14 rfl rfl)
theorem dX7_burn_17 : decode cX7_burn 17 = .ok (.aload_n 0, 1) := dk_42 (dk_at dksX7_burn_0 17 rfl rfl)
theorem dX7_burn_18 : decode cX7_burn 18 = .ok (.getfield 45, 3) := dk_180 0 45 (dk_at dksX7_burn_0 18 rfl rfl)
theorem dX7_burn_21 : decode cX7_burn 21 = .ok (.ifCond .le 5, 3) := dk_158 0 5 (dk_at dksX7_burn_0 21 rfl rfl)
theorem dX7_burn_24 : decode cX7_burn 24 = .ok (.iconst 0, 1) := dk_3 (dk_at dksX7_burn_1 0 rfl rfl)
theorem dX7_burn_25 : decode cX7_burn 25 = .ok (.ireturn, 1) := dk_172 (dk_at dksX7_burn_1 1 rfl rfl)
theorem dX7_burn_26 : decode cX7_burn 26 = .ok (.aload_n 0, 1) := dk_42 (dk_at dksX7_burn_1 2 rfl rfl)
theorem dX7_burn_27 : decode cX7_burn 27 = .ok (.aload_n 0, 1) := dk_42 (dk_at dksX7_burn_1 3 rfl rfl)
theorem dX7_burn_28 : decode cX7_burn 28 = .ok (.iload_n 1, 1) := dk_27 (dk_at dksX7_burn_1 4 rfl rfl)
theorem dX7_burn_29 : decode cX7_burn 29 = .ok (.bipush 10, 2) := dk_16 10 (dk_at dksX7_burn_1 5 rfl rfl)
theorem dX7_burn_31 : decode cX7_burn 31 = .ok (.invokevirtual 52, 3) := dk_182 0 52 (dk_at dksX7_burn_1 7 rfl rfl)
theorem dX7_burn_34 : decode cX7_burn 34 = .ok (.iconst 3, 1) := dk_6 (dk_at dksX7_burn_1 10 rfl rfl)
theorem dX7_burn_35 : decode cX7_burn 35 = .ok (.if_icmp .ne 7, 3) := dk_160 0 7 (dk_at dksX7_burn_1 11 rfl rfl)
theorem dX7_burn_38 : decode cX7_burn 38 = .ok (.iconst 2, 1) := dk_5 (dk_at dksX7_burn_1 14 rfl rfl)
theorem dX7_burn_39 : decode cX7_burn 39 = .ok (.goto 4, 3) := dk_167 0 4 (dk_at dksX7_burn_1 15 rfl rfl)
theorem dX7_burn_42 : decode cX7_burn 42 = .ok (.iconst 0, 1) := dk_3 (dk_at dksX7_burn_1 18 rfl rfl)
theorem dX7_burn_43 : decode cX7_burn 43 = .ok (.putfield 45, 3) := dk_181 0 45 (dk_at dksX7_burn_1 19 rfl rfl)
theorem dX7_burn_46 : decode cX7_burn 46 = .ok (.aload_n 0, 1) := dk_42 (dk_at dksX7_burn_1 22 rfl rfl)
theorem dX7_burn_47 : decode cX7_burn 47 = .ok (.getfield 45, 3) := dk_180 0 45 (dk_at dksX7_burn_2 0 rfl rfl)
theorem dX7_burn_50 : decode cX7_burn 50 = .ok (.ifCond .le 5, 3) := dk_158 0 5 (dk_at dksX7_burn_2 3 rfl rfl)
theorem dX7_burn_53 : decode cX7_burn 53 = .ok (.iconst 0, 1) := dk_3 (dk_at dksX7_burn_2 6 rfl rfl)
theorem dX7_burn_54 : decode cX7_burn 54 = .ok (.ireturn, 1) := dk_172 (dk_at dksX7_burn_2 7 rfl rfl)
theorem dX7_burn_55 : decode cX7_burn 55 = .ok (.aload_n 0, 1) := dk_42 (dk_at dksX7_burn_2 8 rfl rfl)
theorem dX7_burn_56 : decode cX7_burn 56 = .ok (.bipush 45, 2) := dk_16 45 (dk_at dksX7_burn_2 9 rfl rfl)
theorem dX7_burn_58 : decode cX7_burn 58 = .ok (.bipush 12, 2) := dk_16 12 (dk_at dksX7_burn_2 11 rfl rfl)
theorem dX7_burn_60 : decode cX7_burn 60 = .ok (.iload_n 1, 1) := dk_27 (dk_at dksX7_burn_2 13 rfl rfl)
theorem dX7_burn_61 : decode cX7_burn 61 = .ok (.imul, 1) := dk_104 (dk_at dksX7_burn_2 14 rfl rfl)
theorem dX7_burn_62 : decode cX7_burn 62 = .ok (.iadd, 1) := dk_96 (dk_at dksX7_burn_2 15 rfl rfl)
theorem dX7_burn_63 : decode cX7_burn 63 = .ok (.bipush 10, 2) := dk_16 10 (dk_at dksX7_burn_2 16 rfl rfl)
theorem dX7_burn_65 : decode cX7_burn 65 = .ok (.iadd, 1) := dk_96 (dk_at dksX7_burn_2 18 rfl rfl)
theorem dX7_burn_66 : decode cX7_burn 66 = .ok (.iconst 3, 1) := dk_6 (dk_at dksX7_burn_2 19 rfl rfl)
theorem dX7_burn_67 : decode cX7_burn 67 = .ok (.invokevirtual 340, 3) := dk_182 1 84 (dk_at dksX7_burn_2 20 rfl rfl)
theorem dX7_burn_70 : decode cX7_burn 70 = .ok (.istore_n 2, 1) := dk_61 (dk_at dksX7_burn_2 23 rfl rfl)
theorem dX7_burn_71 : decode cX7_burn 71 = .ok (.aload_n 0, 1) := dk_42 (dk_at dksX7_burn_3 0 rfl rfl)
theorem dX7_burn_72 : decode cX7_burn 72 = .ok (.iload_n 1, 1) := dk_27 (dk_at dksX7_burn_3 1 rfl rfl)
theorem dX7_burn_73 : decode cX7_burn 73 = .ok (.iconst 4, 1) := dk_7 (dk_at dksX7_burn_3 2 rfl rfl)
theorem dX7_burn_74 : decode cX7_burn 74 = .ok (.iconst 0, 1) := dk_3 (dk_at dksX7_burn_3 3 rfl rfl)
theorem dX7_burn_75 : decode cX7_burn 75 = .ok (.invokevirtual 279, 3) := dk_182 1 23 (dk_at dksX7_burn_3 4 rfl rfl)
theorem dX7_burn_78 : decode cX7_burn 78 = .ok (.iload_n 2, 1) := dk_28 (dk_at dksX7_burn_3 7 rfl rfl)
theorem dX7_burn_79 : decode cX7_burn 79 = .ok (.ireturn, 1) := dk_172 (dk_at dksX7_burn_3 8 rfl rfl)
abbrev cX7_sets : ByteArray := prog_20_method_69_code
def yX7_sets : MethodName := ⟨RX7, "sets", "(II)I"⟩
def dkwX7_sets_0 : List UInt8 := [42, 182, 1, 75, 42, 180, 0, 7, 27, 46, 62, 42, 180, 0, 7, 27, 28, 79, 29, 172]
abbrev dktX7_sets_0 : List UInt8 := dkwX7_sets_0 ++ []
theorem dksX7_sets_0 : cX7_sets.data.toList.drop 0 = dktX7_sets_0 := by decide +kernel
theorem dX7_sets_0 : decode cX7_sets 0 = .ok (.aload_n 0, 1) := dk_42 (dk_at dksX7_sets_0 0 rfl rfl)
theorem dX7_sets_1 : decode cX7_sets 1 = .ok (.invokevirtual 331, 3) := dk_182 1 75 (dk_at dksX7_sets_0 1 rfl rfl)
theorem dX7_sets_4 : decode cX7_sets 4 = .ok (.aload_n 0, 1) := dk_42 (dk_at dksX7_sets_0 4 rfl rfl)
theorem dX7_sets_5 : decode cX7_sets 5 = .ok (.getfield 7, 3) := dk_180 0 7 (dk_at dksX7_sets_0 5 rfl rfl)
theorem dX7_sets_8 : decode cX7_sets 8 = .ok (.iload_n 1, 1) := dk_27 (dk_at dksX7_sets_0 8 rfl rfl)
theorem dX7_sets_9 : decode cX7_sets 9 = .ok (.iaload, 1) := dk_46 (dk_at dksX7_sets_0 9 rfl rfl)
theorem dX7_sets_10 : decode cX7_sets 10 = .ok (.istore_n 3, 1) := dk_62 (dk_at dksX7_sets_0 10 rfl rfl)
theorem dX7_sets_11 : decode cX7_sets 11 = .ok (.aload_n 0, 1) := dk_42 (dk_at dksX7_sets_0 11 rfl rfl)
theorem dX7_sets_12 : decode cX7_sets 12 = .ok (.getfield 7, 3) := dk_180 0 7 (dk_at dksX7_sets_0 12 rfl rfl)
theorem dX7_sets_15 : decode cX7_sets 15 = .ok (.iload_n 1, 1) := dk_27 (dk_at dksX7_sets_0 15 rfl rfl)
theorem dX7_sets_16 : decode cX7_sets 16 = .ok (.iload_n 2, 1) := dk_28 (dk_at dksX7_sets_0 16 rfl rfl)
theorem dX7_sets_17 : decode cX7_sets 17 = .ok (.iastore, 1) := dk_79 (dk_at dksX7_sets_0 17 rfl rfl)
theorem dX7_sets_18 : decode cX7_sets 18 = .ok (.iload_n 3, 1) := dk_29 (dk_at dksX7_sets_0 18 rfl rfl)
theorem dX7_sets_19 : decode cX7_sets 19 = .ok (.ireturn, 1) := dk_172 (dk_at dksX7_sets_0 19 rfl rfl)
abbrev cX7_lend : ByteArray := prog_20_method_74_code
def yX7_lend : MethodName := ⟨RX7, "lend", "(III)I"⟩
def dkwX7_lend_5 : List UInt8 := [16, 15, 5, 28, 104, 96, 92, 46, 29, 96, 79, 21, 4, 29, 100, 172]
abbrev dktX7_lend_5 : List UInt8 := dkwX7_lend_5 ++ []
def dkwX7_lend_4 : List UInt8 := [42, 16, 15, 5, 27, 104, 96, 42, 27, 182, 1, 26, 29, 100, 182, 1, 84, 54, 4, 42, 180, 0, 7]
abbrev dktX7_lend_4 : List UInt8 := dkwX7_lend_4 ++ dktX7_lend_5
def dkwX7_lend_3 : List UInt8 := [96, 17, 39, 15, 164, 0, 7, 6, 167, 0, 4, 3, 181, 0, 45, 42, 180, 0, 45, 158, 0, 5, 3, 172]
abbrev dktX7_lend_3 : List UInt8 := dkwX7_lend_3 ++ dktX7_lend_4
def dkwX7_lend_2 : List UInt8 := [180, 0, 45, 158, 0, 5, 3, 172, 42, 42, 27, 182, 1, 26, 29, 161, 0, 16, 42, 28, 182, 1, 26, 29]
abbrev dktX7_lend_2 : List UInt8 := dkwX7_lend_2 ++ dktX7_lend_3
def dkwX7_lend_1 : List UInt8 := [159, 0, 14, 29, 4, 17, 3, 231, 184, 0, 48, 154, 0, 7, 5, 167, 0, 4, 3, 181, 0, 45, 42]
abbrev dktX7_lend_1 : List UInt8 := dkwX7_lend_1 ++ dktX7_lend_2
def dkwX7_lend_0 : List UInt8 := [42, 42, 27, 182, 1, 50, 153, 0, 11, 42, 28, 182, 1, 50, 154, 0, 7, 4, 167, 0, 24, 27, 28]
abbrev dktX7_lend_0 : List UInt8 := dkwX7_lend_0 ++ dktX7_lend_1
theorem dksX7_lend_0 : cX7_lend.data.toList.drop 0 = dktX7_lend_0 := by decide +kernel
theorem dksX7_lend_1 : cX7_lend.data.toList.drop 23 = dktX7_lend_1 := dk_seg dksX7_lend_0 23 rfl rfl
theorem dksX7_lend_2 : cX7_lend.data.toList.drop 46 = dktX7_lend_2 := dk_seg dksX7_lend_1 23 rfl rfl
theorem dksX7_lend_3 : cX7_lend.data.toList.drop 70 = dktX7_lend_3 := dk_seg dksX7_lend_2 24 rfl rfl
theorem dksX7_lend_4 : cX7_lend.data.toList.drop 94 = dktX7_lend_4 := dk_seg dksX7_lend_3 24 rfl rfl
theorem dksX7_lend_5 : cX7_lend.data.toList.drop 117 = dktX7_lend_5 := dk_seg dksX7_lend_4 23 rfl rfl
theorem dX7_lend_0 : decode cX7_lend 0 = .ok (.aload_n 0, 1) := dk_42 (dk_at dksX7_lend_0 0 rfl rfl)
theorem dX7_lend_1 : decode cX7_lend 1 = .ok (.aload_n 0, 1) := dk_42 (dk_at dksX7_lend_0 1 rfl rfl)
theorem dX7_lend_2 : decode cX7_lend 2 = .ok (.iload_n 1, 1) := dk_27 (dk_at dksX7_lend_0 2 rfl rfl)
theorem dX7_lend_3 : decode cX7_lend 3 = .ok (.invokevirtual 306, 3) := dk_182 1 50 (dk_at dksX7_lend_0 3 rfl rfl)
theorem dX7_lend_6 : decode cX7_lend 6 = .ok (.ifCond .eq 11, 3) := dk_153 0 11 (dk_at dksX7_lend_0 6 rfl rfl)
theorem dX7_lend_9 : decode cX7_lend 9 = .ok (.aload_n 0, 1) := dk_42 (dk_at dksX7_lend_0 9 rfl rfl)
theorem dX7_lend_10 : decode cX7_lend 10 = .ok (.iload_n 2, 1) := dk_28 (dk_at dksX7_lend_0 10 rfl rfl)
theorem dX7_lend_11 : decode cX7_lend 11 = .ok (.invokevirtual 306, 3) := dk_182 1 50 (dk_at dksX7_lend_0 11 rfl rfl)
theorem dX7_lend_14 : decode cX7_lend 14 = .ok (.ifCond .ne 7, 3) := dk_154 0 7 (dk_at dksX7_lend_0 14 rfl rfl)
theorem dX7_lend_17 : decode cX7_lend 17 = .ok (.iconst 1, 1) := dk_4 (dk_at dksX7_lend_0 17 rfl rfl)
theorem dX7_lend_18 : decode cX7_lend 18 = .ok (.goto 24, 3) := dk_167 0 24 (dk_at dksX7_lend_0 18 rfl rfl)
theorem dX7_lend_21 : decode cX7_lend 21 = .ok (.iload_n 1, 1) := dk_27 (dk_at dksX7_lend_0 21 rfl rfl)
theorem dX7_lend_22 : decode cX7_lend 22 = .ok (.iload_n 2, 1) := dk_28 (dk_at dksX7_lend_0 22 rfl rfl)
theorem dX7_lend_23 : decode cX7_lend 23 = .ok (.if_icmp .eq 14, 3) := dk_159 0 14 (dk_at dksX7_lend_1 0 rfl rfl)
theorem dX7_lend_26 : decode cX7_lend 26 = .ok (.iload_n 3, 1) := dk_29 (dk_at dksX7_lend_1 3 rfl rfl)
theorem dX7_lend_27 : decode cX7_lend 27 = .ok (.iconst 1, 1) := dk_4 (dk_at dksX7_lend_1 4 rfl rfl)
theorem dX7_lend_28 : decode cX7_lend 28 = .ok (.sipush 999, 3) := dk_17 3 231 (dk_at dksX7_lend_1 5 rfl rfl)
theorem dX7_lend_31 : decode cX7_lend 31 = .ok (.invokestatic 48, 3) := dk_184 0 48 (dk_at dksX7_lend_1 8 rfl rfl)
theorem dX7_lend_34 : decode cX7_lend 34 = .ok (.ifCond .ne 7, 3) := dk_154 0 7 (dk_at dksX7_lend_1 11 rfl rfl)
theorem dX7_lend_37 : decode cX7_lend 37 = .ok (.iconst 2, 1) := dk_5 (dk_at dksX7_lend_1 14 rfl rfl)
theorem dX7_lend_38 : decode cX7_lend 38 = .ok (.goto 4, 3) := dk_167 0 4 (dk_at dksX7_lend_1 15 rfl rfl)
theorem dX7_lend_41 : decode cX7_lend 41 = .ok (.iconst 0, 1) := dk_3 (dk_at dksX7_lend_1 18 rfl rfl)
theorem dX7_lend_42 : decode cX7_lend 42 = .ok (.putfield 45, 3) := dk_181 0 45 (dk_at dksX7_lend_1 19 rfl rfl)
theorem dX7_lend_45 : decode cX7_lend 45 = .ok (.aload_n 0, 1) := dk_42 (dk_at dksX7_lend_1 22 rfl rfl)
theorem dX7_lend_46 : decode cX7_lend 46 = .ok (.getfield 45, 3) := dk_180 0 45 (dk_at dksX7_lend_2 0 rfl rfl)
theorem dX7_lend_49 : decode cX7_lend 49 = .ok (.ifCond .le 5, 3) := dk_158 0 5 (dk_at dksX7_lend_2 3 rfl rfl)
theorem dX7_lend_52 : decode cX7_lend 52 = .ok (.iconst 0, 1) := dk_3 (dk_at dksX7_lend_2 6 rfl rfl)
theorem dX7_lend_53 : decode cX7_lend 53 = .ok (.ireturn, 1) := dk_172 (dk_at dksX7_lend_2 7 rfl rfl)
theorem dX7_lend_54 : decode cX7_lend 54 = .ok (.aload_n 0, 1) := dk_42 (dk_at dksX7_lend_2 8 rfl rfl)
theorem dX7_lend_55 : decode cX7_lend 55 = .ok (.aload_n 0, 1) := dk_42 (dk_at dksX7_lend_2 9 rfl rfl)
theorem dX7_lend_56 : decode cX7_lend 56 = .ok (.iload_n 1, 1) := dk_27 (dk_at dksX7_lend_2 10 rfl rfl)
theorem dX7_lend_57 : decode cX7_lend 57 = .ok (.invokevirtual 282, 3) := dk_182 1 26 (dk_at dksX7_lend_2 11 rfl rfl)
theorem dX7_lend_60 : decode cX7_lend 60 = .ok (.iload_n 3, 1) := dk_29 (dk_at dksX7_lend_2 14 rfl rfl)
theorem dX7_lend_61 : decode cX7_lend 61 = .ok (.if_icmp .lt 16, 3) := dk_161 0 16 (dk_at dksX7_lend_2 15 rfl rfl)
theorem dX7_lend_64 : decode cX7_lend 64 = .ok (.aload_n 0, 1) := dk_42 (dk_at dksX7_lend_2 18 rfl rfl)
theorem dX7_lend_65 : decode cX7_lend 65 = .ok (.iload_n 2, 1) := dk_28 (dk_at dksX7_lend_2 19 rfl rfl)
theorem dX7_lend_66 : decode cX7_lend 66 = .ok (.invokevirtual 282, 3) := dk_182 1 26 (dk_at dksX7_lend_2 20 rfl rfl)
theorem dX7_lend_69 : decode cX7_lend 69 = .ok (.iload_n 3, 1) := dk_29 (dk_at dksX7_lend_2 23 rfl rfl)
theorem dX7_lend_70 : decode cX7_lend 70 = .ok (.iadd, 1) := dk_96 (dk_at dksX7_lend_3 0 rfl rfl)
theorem dX7_lend_71 : decode cX7_lend 71 = .ok (.sipush 9999, 3) := dk_17 39 15 (dk_at dksX7_lend_3 1 rfl rfl)
theorem dX7_lend_74 : decode cX7_lend 74 = .ok (.if_icmp .le 7, 3) := dk_164 0 7 (dk_at dksX7_lend_3 4 rfl rfl)
theorem dX7_lend_77 : decode cX7_lend 77 = .ok (.iconst 3, 1) := dk_6 (dk_at dksX7_lend_3 7 rfl rfl)
theorem dX7_lend_78 : decode cX7_lend 78 = .ok (.goto 4, 3) := dk_167 0 4 (dk_at dksX7_lend_3 8 rfl rfl)
theorem dX7_lend_81 : decode cX7_lend 81 = .ok (.iconst 0, 1) := dk_3 (dk_at dksX7_lend_3 11 rfl rfl)
theorem dX7_lend_82 : decode cX7_lend 82 = .ok (.putfield 45, 3) := dk_181 0 45 (dk_at dksX7_lend_3 12 rfl rfl)
theorem dX7_lend_85 : decode cX7_lend 85 = .ok (.aload_n 0, 1) := dk_42 (dk_at dksX7_lend_3 15 rfl rfl)
theorem dX7_lend_86 : decode cX7_lend 86 = .ok (.getfield 45, 3) := dk_180 0 45 (dk_at dksX7_lend_3 16 rfl rfl)
theorem dX7_lend_89 : decode cX7_lend 89 = .ok (.ifCond .le 5, 3) := dk_158 0 5 (dk_at dksX7_lend_3 19 rfl rfl)
theorem dX7_lend_92 : decode cX7_lend 92 = .ok (.iconst 0, 1) := dk_3 (dk_at dksX7_lend_3 22 rfl rfl)
theorem dX7_lend_93 : decode cX7_lend 93 = .ok (.ireturn, 1) := dk_172 (dk_at dksX7_lend_3 23 rfl rfl)
theorem dX7_lend_94 : decode cX7_lend 94 = .ok (.aload_n 0, 1) := dk_42 (dk_at dksX7_lend_4 0 rfl rfl)
theorem dX7_lend_95 : decode cX7_lend 95 = .ok (.bipush 15, 2) := dk_16 15 (dk_at dksX7_lend_4 1 rfl rfl)
theorem dX7_lend_97 : decode cX7_lend 97 = .ok (.iconst 2, 1) := dk_5 (dk_at dksX7_lend_4 3 rfl rfl)
theorem dX7_lend_98 : decode cX7_lend 98 = .ok (.iload_n 1, 1) := dk_27 (dk_at dksX7_lend_4 4 rfl rfl)
theorem dX7_lend_99 : decode cX7_lend 99 = .ok (.imul, 1) := dk_104 (dk_at dksX7_lend_4 5 rfl rfl)
theorem dX7_lend_100 : decode cX7_lend 100 = .ok (.iadd, 1) := dk_96 (dk_at dksX7_lend_4 6 rfl rfl)
theorem dX7_lend_101 : decode cX7_lend 101 = .ok (.aload_n 0, 1) := dk_42 (dk_at dksX7_lend_4 7 rfl rfl)
theorem dX7_lend_102 : decode cX7_lend 102 = .ok (.iload_n 1, 1) := dk_27 (dk_at dksX7_lend_4 8 rfl rfl)
theorem dX7_lend_103 : decode cX7_lend 103 = .ok (.invokevirtual 282, 3) := dk_182 1 26 (dk_at dksX7_lend_4 9 rfl rfl)
theorem dX7_lend_106 : decode cX7_lend 106 = .ok (.iload_n 3, 1) := dk_29 (dk_at dksX7_lend_4 12 rfl rfl)
theorem dX7_lend_107 : decode cX7_lend 107 = .ok (.isub, 1) := dk_100 (dk_at dksX7_lend_4 13 rfl rfl)
theorem dX7_lend_108 : decode cX7_lend 108 = .ok (.invokevirtual 340, 3) := dk_182 1 84 (dk_at dksX7_lend_4 14 rfl rfl)
theorem dX7_lend_111 : decode cX7_lend 111 = .ok (.istore 4, 2) := dk_54 4 (dk_at dksX7_lend_4 17 rfl rfl)
theorem dX7_lend_113 : decode cX7_lend 113 = .ok (.aload_n 0, 1) := dk_42 (dk_at dksX7_lend_4 19 rfl rfl)
theorem dX7_lend_114 : decode cX7_lend 114 = .ok (.getfield 7, 3) := dk_180 0 7 (dk_at dksX7_lend_4 20 rfl rfl)
theorem dX7_lend_117 : decode cX7_lend 117 = .ok (.bipush 15, 2) := dk_16 15 (dk_at dksX7_lend_5 0 rfl rfl)
theorem dX7_lend_119 : decode cX7_lend 119 = .ok (.iconst 2, 1) := dk_5 (dk_at dksX7_lend_5 2 rfl rfl)
theorem dX7_lend_120 : decode cX7_lend 120 = .ok (.iload_n 2, 1) := dk_28 (dk_at dksX7_lend_5 3 rfl rfl)
theorem dX7_lend_121 : decode cX7_lend 121 = .ok (.imul, 1) := dk_104 (dk_at dksX7_lend_5 4 rfl rfl)
theorem dX7_lend_122 : decode cX7_lend 122 = .ok (.iadd, 1) := dk_96 (dk_at dksX7_lend_5 5 rfl rfl)
theorem dX7_lend_123 : decode cX7_lend 123 = .ok (.dup2, 1) := dk_92 (dk_at dksX7_lend_5 6 rfl rfl)
theorem dX7_lend_124 : decode cX7_lend 124 = .ok (.iaload, 1) := dk_46 (dk_at dksX7_lend_5 7 rfl rfl)
theorem dX7_lend_125 : decode cX7_lend 125 = .ok (.iload_n 3, 1) := dk_29 (dk_at dksX7_lend_5 8 rfl rfl)
theorem dX7_lend_126 : decode cX7_lend 126 = .ok (.iadd, 1) := dk_96 (dk_at dksX7_lend_5 9 rfl rfl)
theorem dX7_lend_127 : decode cX7_lend 127 = .ok (.iastore, 1) := dk_79 (dk_at dksX7_lend_5 10 rfl rfl)
theorem dX7_lend_128 : decode cX7_lend 128 = .ok (.iload 4, 2) := dk_21 4 (dk_at dksX7_lend_5 11 rfl rfl)
theorem dX7_lend_130 : decode cX7_lend 130 = .ok (.iload_n 3, 1) := dk_29 (dk_at dksX7_lend_5 13 rfl rfl)
theorem dX7_lend_131 : decode cX7_lend 131 = .ok (.isub, 1) := dk_100 (dk_at dksX7_lend_5 14 rfl rfl)
theorem dX7_lend_132 : decode cX7_lend 132 = .ok (.ireturn, 1) := dk_172 (dk_at dksX7_lend_5 15 rfl rfl)
abbrev cX7_salt : ByteArray := prog_20_method_75_code
def yX7_salt : MethodName := ⟨RX7, "salt", "(I)I"⟩
def dkwX7_salt_1 : List UInt8 := [158, 0, 7, 3, 167, 0, 10, 42, 16, 7, 27, 182, 1, 84, 172]
abbrev dktX7_salt_1 : List UInt8 := dkwX7_salt_1 ++ []
def dkwX7_salt_0 : List UInt8 := [42, 27, 3, 16, 9, 184, 0, 48, 154, 0, 7, 4, 167, 0, 4, 3, 181, 0, 45, 42, 180, 0, 45]
abbrev dktX7_salt_0 : List UInt8 := dkwX7_salt_0 ++ dktX7_salt_1
theorem dksX7_salt_0 : cX7_salt.data.toList.drop 0 = dktX7_salt_0 := by decide +kernel
theorem dksX7_salt_1 : cX7_salt.data.toList.drop 23 = dktX7_salt_1 := dk_seg dksX7_salt_0 23 rfl rfl
theorem dX7_salt_0 : decode cX7_salt 0 = .ok (.aload_n 0, 1) := dk_42 (dk_at dksX7_salt_0 0 rfl rfl)
theorem dX7_salt_1 : decode cX7_salt 1 = .ok (.iload_n 1, 1) := dk_27 (dk_at dksX7_salt_0 1 rfl rfl)
theorem dX7_salt_2 : decode cX7_salt 2 = .ok (.iconst 0, 1) := dk_3 (dk_at dksX7_salt_0 2 rfl rfl)
theorem dX7_salt_3 : decode cX7_salt 3 = .ok (.bipush 9, 2) := dk_16 9 (dk_at dksX7_salt_0 3 rfl rfl)
theorem dX7_salt_5 : decode cX7_salt 5 = .ok (.invokestatic 48, 3) := dk_184 0 48 (dk_at dksX7_salt_0 5 rfl rfl)
theorem dX7_salt_8 : decode cX7_salt 8 = .ok (.ifCond .ne 7, 3) := dk_154 0 7 (dk_at dksX7_salt_0 8 rfl rfl)
theorem dX7_salt_11 : decode cX7_salt 11 = .ok (.iconst 1, 1) := dk_4 (dk_at dksX7_salt_0 11 rfl rfl)
theorem dX7_salt_12 : decode cX7_salt 12 = .ok (.goto 4, 3) := dk_167 0 4 (dk_at dksX7_salt_0 12 rfl rfl)
theorem dX7_salt_15 : decode cX7_salt 15 = .ok (.iconst 0, 1) := dk_3 (dk_at dksX7_salt_0 15 rfl rfl)
theorem dX7_salt_16 : decode cX7_salt 16 = .ok (.putfield 45, 3) := dk_181 0 45 (dk_at dksX7_salt_0 16 rfl rfl)
theorem dX7_salt_19 : decode cX7_salt 19 = .ok (.aload_n 0, 1) := dk_42 (dk_at dksX7_salt_0 19 rfl rfl)
theorem dX7_salt_20 : decode cX7_salt 20 = .ok (.getfield 45, 3) := dk_180 0 45 (dk_at dksX7_salt_0 20 rfl rfl)
theorem dX7_salt_23 : decode cX7_salt 23 = .ok (.ifCond .le 7, 3) := dk_158 0 7 (dk_at dksX7_salt_1 0 rfl rfl)
theorem dX7_salt_26 : decode cX7_salt 26 = .ok (.iconst 0, 1) := dk_3 (dk_at dksX7_salt_1 3 rfl rfl)
theorem dX7_salt_27 : decode cX7_salt 27 = .ok (.goto 10, 3) := dk_167 0 10 (dk_at dksX7_salt_1 4 rfl rfl)
theorem dX7_salt_30 : decode cX7_salt 30 = .ok (.aload_n 0, 1) := dk_42 (dk_at dksX7_salt_1 7 rfl rfl)
theorem dX7_salt_31 : decode cX7_salt 31 = .ok (.bipush 7, 2) := dk_16 7 (dk_at dksX7_salt_1 8 rfl rfl)
theorem dX7_salt_33 : decode cX7_salt 33 = .ok (.iload_n 1, 1) := dk_27 (dk_at dksX7_salt_1 10 rfl rfl)
theorem dX7_salt_34 : decode cX7_salt 34 = .ok (.invokevirtual 340, 3) := dk_182 1 84 (dk_at dksX7_salt_1 11 rfl rfl)
theorem dX7_salt_37 : decode cX7_salt 37 = .ok (.ireturn, 1) := dk_172 (dk_at dksX7_salt_1 14 rfl rfl)
abbrev cX7_bar : ByteArray := prog_20_method_76_code
def yX7_bar : MethodName := ⟨RX7, "bar", "(II)I"⟩
def dkwX7_bar_2 : List UInt8 := [167, 0, 18, 42, 16, 45, 16, 12, 27, 104, 96, 16, 6, 96, 28, 182, 1, 84, 172]
abbrev dktX7_bar_2 : List UInt8 := dkwX7_bar_2 ++ []
def dkwX7_bar_1 : List UInt8 := [167, 0, 13, 28, 27, 161, 0, 7, 5, 167, 0, 4, 3, 181, 0, 45, 42, 180, 0, 45, 158, 0, 7, 3]
abbrev dktX7_bar_1 : List UInt8 := dkwX7_bar_1 ++ dktX7_bar_2
def dkwX7_bar_0 : List UInt8 := [42, 42, 27, 182, 1, 69, 153, 0, 16, 28, 2, 159, 0, 15, 42, 28, 182, 1, 69, 154, 0, 7, 4]
abbrev dktX7_bar_0 : List UInt8 := dkwX7_bar_0 ++ dktX7_bar_1
theorem dksX7_bar_0 : cX7_bar.data.toList.drop 0 = dktX7_bar_0 := by decide +kernel
theorem dksX7_bar_1 : cX7_bar.data.toList.drop 23 = dktX7_bar_1 := dk_seg dksX7_bar_0 23 rfl rfl
theorem dksX7_bar_2 : cX7_bar.data.toList.drop 47 = dktX7_bar_2 := dk_seg dksX7_bar_1 24 rfl rfl
theorem dX7_bar_0 : decode cX7_bar 0 = .ok (.aload_n 0, 1) := dk_42 (dk_at dksX7_bar_0 0 rfl rfl)
theorem dX7_bar_1 : decode cX7_bar 1 = .ok (.aload_n 0, 1) := dk_42 (dk_at dksX7_bar_0 1 rfl rfl)
theorem dX7_bar_2 : decode cX7_bar 2 = .ok (.iload_n 1, 1) := dk_27 (dk_at dksX7_bar_0 2 rfl rfl)
theorem dX7_bar_3 : decode cX7_bar 3 = .ok (.invokevirtual 325, 3) := dk_182 1 69 (dk_at dksX7_bar_0 3 rfl rfl)
theorem dX7_bar_6 : decode cX7_bar 6 = .ok (.ifCond .eq 16, 3) := dk_153 0 16 (dk_at dksX7_bar_0 6 rfl rfl)
theorem dX7_bar_9 : decode cX7_bar 9 = .ok (.iload_n 2, 1) := dk_28 (dk_at dksX7_bar_0 9 rfl rfl)
theorem dX7_bar_10 : decode cX7_bar 10 = .ok (.iconst (-1), 1) := dk_2 (dk_at dksX7_bar_0 10 rfl rfl)
theorem dX7_bar_11 : decode cX7_bar 11 = .ok (.if_icmp .eq 15, 3) := dk_159 0 15 (dk_at dksX7_bar_0 11 rfl rfl)
theorem dX7_bar_14 : decode cX7_bar 14 = .ok (.aload_n 0, 1) := dk_42 (dk_at dksX7_bar_0 14 rfl rfl)
theorem dX7_bar_15 : decode cX7_bar 15 = .ok (.iload_n 2, 1) := dk_28 (dk_at dksX7_bar_0 15 rfl rfl)
theorem dX7_bar_16 : decode cX7_bar 16 = .ok (.invokevirtual 325, 3) := dk_182 1 69 (dk_at dksX7_bar_0 16 rfl rfl)
theorem dX7_bar_19 : decode cX7_bar 19 = .ok (.ifCond .ne 7, 3) := dk_154 0 7 (dk_at dksX7_bar_0 19 rfl rfl)
theorem dX7_bar_22 : decode cX7_bar 22 = .ok (.iconst 1, 1) := dk_4 (dk_at dksX7_bar_0 22 rfl rfl)
theorem dX7_bar_23 : decode cX7_bar 23 = .ok (.goto 13, 3) := dk_167 0 13 (dk_at dksX7_bar_1 0 rfl rfl)
theorem dX7_bar_26 : decode cX7_bar 26 = .ok (.iload_n 2, 1) := dk_28 (dk_at dksX7_bar_1 3 rfl rfl)
theorem dX7_bar_27 : decode cX7_bar 27 = .ok (.iload_n 1, 1) := dk_27 (dk_at dksX7_bar_1 4 rfl rfl)
theorem dX7_bar_28 : decode cX7_bar 28 = .ok (.if_icmp .lt 7, 3) := dk_161 0 7 (dk_at dksX7_bar_1 5 rfl rfl)
theorem dX7_bar_31 : decode cX7_bar 31 = .ok (.iconst 2, 1) := dk_5 (dk_at dksX7_bar_1 8 rfl rfl)
theorem dX7_bar_32 : decode cX7_bar 32 = .ok (.goto 4, 3) := dk_167 0 4 (dk_at dksX7_bar_1 9 rfl rfl)
theorem dX7_bar_35 : decode cX7_bar 35 = .ok (.iconst 0, 1) := dk_3 (dk_at dksX7_bar_1 12 rfl rfl)
theorem dX7_bar_36 : decode cX7_bar 36 = .ok (.putfield 45, 3) := dk_181 0 45 (dk_at dksX7_bar_1 13 rfl rfl)
theorem dX7_bar_39 : decode cX7_bar 39 = .ok (.aload_n 0, 1) := dk_42 (dk_at dksX7_bar_1 16 rfl rfl)
theorem dX7_bar_40 : decode cX7_bar 40 = .ok (.getfield 45, 3) := dk_180 0 45 (dk_at dksX7_bar_1 17 rfl rfl)
theorem dX7_bar_43 : decode cX7_bar 43 = .ok (.ifCond .le 7, 3) := dk_158 0 7 (dk_at dksX7_bar_1 20 rfl rfl)
theorem dX7_bar_46 : decode cX7_bar 46 = .ok (.iconst 0, 1) := dk_3 (dk_at dksX7_bar_1 23 rfl rfl)
theorem dX7_bar_47 : decode cX7_bar 47 = .ok (.goto 18, 3) := dk_167 0 18 (dk_at dksX7_bar_2 0 rfl rfl)
theorem dX7_bar_50 : decode cX7_bar 50 = .ok (.aload_n 0, 1) := dk_42 (dk_at dksX7_bar_2 3 rfl rfl)
theorem dX7_bar_51 : decode cX7_bar 51 = .ok (.bipush 45, 2) := dk_16 45 (dk_at dksX7_bar_2 4 rfl rfl)
theorem dX7_bar_53 : decode cX7_bar 53 = .ok (.bipush 12, 2) := dk_16 12 (dk_at dksX7_bar_2 6 rfl rfl)
theorem dX7_bar_55 : decode cX7_bar 55 = .ok (.iload_n 1, 1) := dk_27 (dk_at dksX7_bar_2 8 rfl rfl)
theorem dX7_bar_56 : decode cX7_bar 56 = .ok (.imul, 1) := dk_104 (dk_at dksX7_bar_2 9 rfl rfl)
theorem dX7_bar_57 : decode cX7_bar 57 = .ok (.iadd, 1) := dk_96 (dk_at dksX7_bar_2 10 rfl rfl)
theorem dX7_bar_58 : decode cX7_bar 58 = .ok (.bipush 6, 2) := dk_16 6 (dk_at dksX7_bar_2 11 rfl rfl)
theorem dX7_bar_60 : decode cX7_bar 60 = .ok (.iadd, 1) := dk_96 (dk_at dksX7_bar_2 13 rfl rfl)
theorem dX7_bar_61 : decode cX7_bar 61 = .ok (.iload_n 2, 1) := dk_28 (dk_at dksX7_bar_2 14 rfl rfl)
theorem dX7_bar_62 : decode cX7_bar 62 = .ok (.invokevirtual 340, 3) := dk_182 1 84 (dk_at dksX7_bar_2 15 rfl rfl)
theorem dX7_bar_65 : decode cX7_bar 65 = .ok (.ireturn, 1) := dk_172 (dk_at dksX7_bar_2 18 rfl rfl)
abbrev cX7_reads : ByteArray := prog_20_method_77_code
def yX7_reads : MethodName := ⟨RX7, "reads", "()I"⟩
def dkwX7_reads_0 : List UInt8 := [42, 3, 181, 0, 45, 42, 4, 182, 0, 60, 172]
abbrev dktX7_reads_0 : List UInt8 := dkwX7_reads_0 ++ []
theorem dksX7_reads_0 : cX7_reads.data.toList.drop 0 = dktX7_reads_0 := by decide +kernel
theorem dX7_reads_0 : decode cX7_reads 0 = .ok (.aload_n 0, 1) := dk_42 (dk_at dksX7_reads_0 0 rfl rfl)
theorem dX7_reads_1 : decode cX7_reads 1 = .ok (.iconst 0, 1) := dk_3 (dk_at dksX7_reads_0 1 rfl rfl)
theorem dX7_reads_2 : decode cX7_reads 2 = .ok (.putfield 45, 3) := dk_181 0 45 (dk_at dksX7_reads_0 2 rfl rfl)
theorem dX7_reads_5 : decode cX7_reads 5 = .ok (.aload_n 0, 1) := dk_42 (dk_at dksX7_reads_0 5 rfl rfl)
theorem dX7_reads_6 : decode cX7_reads 6 = .ok (.iconst 1, 1) := dk_4 (dk_at dksX7_reads_0 6 rfl rfl)
theorem dX7_reads_7 : decode cX7_reads 7 = .ok (.invokevirtual 60, 3) := dk_182 0 60 (dk_at dksX7_reads_0 7 rfl rfl)
theorem dX7_reads_10 : decode cX7_reads 10 = .ok (.ireturn, 1) := dk_172 (dk_at dksX7_reads_0 10 rfl rfl)
abbrev cX7_blank : ByteArray := prog_20_method_78_code
def yX7_blank : MethodName := ⟨RX7, "blank", "()I"⟩
def dkwX7_blank_0 : List UInt8 := [42, 3, 181, 0, 45, 42, 3, 182, 0, 60, 172]
abbrev dktX7_blank_0 : List UInt8 := dkwX7_blank_0 ++ []
theorem dksX7_blank_0 : cX7_blank.data.toList.drop 0 = dktX7_blank_0 := by decide +kernel
theorem dX7_blank_0 : decode cX7_blank 0 = .ok (.aload_n 0, 1) := dk_42 (dk_at dksX7_blank_0 0 rfl rfl)
theorem dX7_blank_1 : decode cX7_blank 1 = .ok (.iconst 0, 1) := dk_3 (dk_at dksX7_blank_0 1 rfl rfl)
theorem dX7_blank_2 : decode cX7_blank 2 = .ok (.putfield 45, 3) := dk_181 0 45 (dk_at dksX7_blank_0 2 rfl rfl)
theorem dX7_blank_5 : decode cX7_blank 5 = .ok (.aload_n 0, 1) := dk_42 (dk_at dksX7_blank_0 5 rfl rfl)
theorem dX7_blank_6 : decode cX7_blank 6 = .ok (.iconst 0, 1) := dk_3 (dk_at dksX7_blank_0 6 rfl rfl)
theorem dX7_blank_7 : decode cX7_blank 7 = .ok (.invokevirtual 60, 3) := dk_182 0 60 (dk_at dksX7_blank_0 7 rfl rfl)
theorem dX7_blank_10 : decode cX7_blank 10 = .ok (.ireturn, 1) := dk_172 (dk_at dksX7_blank_0 10 rfl rfl)
abbrev cX7_valid : ByteArray := prog_20_method_79_code
def yX7_valid : MethodName := ⟨RX7, "valid", "()I"⟩
def dkwX7_valid_1 : List UInt8 := [182, 1, 38, 153, 0, 9, 4, 28, 120, 167, 0, 4, 3, 128, 60, 132, 2, 1, 167, 255, 225, 27, 172]
abbrev dktX7_valid_1 : List UInt8 := dkwX7_valid_1 ++ []
def dkwX7_valid_0 : List UInt8 := [42, 3, 181, 0, 45, 3, 60, 3, 61, 28, 42, 180, 0, 7, 8, 46, 162, 0, 27, 27, 42, 28]
abbrev dktX7_valid_0 : List UInt8 := dkwX7_valid_0 ++ dktX7_valid_1
theorem dksX7_valid_0 : cX7_valid.data.toList.drop 0 = dktX7_valid_0 := by decide +kernel
theorem dksX7_valid_1 : cX7_valid.data.toList.drop 22 = dktX7_valid_1 := dk_seg dksX7_valid_0 22 rfl rfl
theorem dX7_valid_0 : decode cX7_valid 0 = .ok (.aload_n 0, 1) := dk_42 (dk_at dksX7_valid_0 0 rfl rfl)
theorem dX7_valid_1 : decode cX7_valid 1 = .ok (.iconst 0, 1) := dk_3 (dk_at dksX7_valid_0 1 rfl rfl)
theorem dX7_valid_2 : decode cX7_valid 2 = .ok (.putfield 45, 3) := dk_181 0 45 (dk_at dksX7_valid_0 2 rfl rfl)
theorem dX7_valid_5 : decode cX7_valid 5 = .ok (.iconst 0, 1) := dk_3 (dk_at dksX7_valid_0 5 rfl rfl)
theorem dX7_valid_6 : decode cX7_valid 6 = .ok (.istore_n 1, 1) := dk_60 (dk_at dksX7_valid_0 6 rfl rfl)
theorem dX7_valid_7 : decode cX7_valid 7 = .ok (.iconst 0, 1) := dk_3 (dk_at dksX7_valid_0 7 rfl rfl)
theorem dX7_valid_8 : decode cX7_valid 8 = .ok (.istore_n 2, 1) := dk_61 (dk_at dksX7_valid_0 8 rfl rfl)
theorem dX7_valid_9 : decode cX7_valid 9 = .ok (.iload_n 2, 1) := dk_28 (dk_at dksX7_valid_0 9 rfl rfl)
theorem dX7_valid_10 : decode cX7_valid 10 = .ok (.aload_n 0, 1) := dk_42 (dk_at dksX7_valid_0 10 rfl rfl)
theorem dX7_valid_11 : decode cX7_valid 11 = .ok (.getfield 7, 3) := dk_180 0 7 (dk_at dksX7_valid_0 11 rfl rfl)
theorem dX7_valid_14 : decode cX7_valid 14 = .ok (.iconst 5, 1) := dk_8 (dk_at dksX7_valid_0 14 rfl rfl)
theorem dX7_valid_15 : decode cX7_valid 15 = .ok (.iaload, 1) := dk_46 (dk_at dksX7_valid_0 15 rfl rfl)
theorem dX7_valid_16 : decode cX7_valid 16 = .ok (.if_icmp .ge 27, 3) := dk_162 0 27 (dk_at dksX7_valid_0 16 rfl rfl)
theorem dX7_valid_19 : decode cX7_valid 19 = .ok (.iload_n 1, 1) := dk_27 (dk_at dksX7_valid_0 19 rfl rfl)
theorem dX7_valid_20 : decode cX7_valid 20 = .ok (.aload_n 0, 1) := dk_42 (dk_at dksX7_valid_0 20 rfl rfl)
theorem dX7_valid_21 : decode cX7_valid 21 = .ok (.iload_n 2, 1) := dk_28 (dk_at dksX7_valid_0 21 rfl rfl)
theorem dX7_valid_22 : decode cX7_valid 22 = .ok (.invokevirtual 294, 3) := dk_182 1 38 (dk_at dksX7_valid_1 0 rfl rfl)
theorem dX7_valid_25 : decode cX7_valid 25 = .ok (.ifCond .eq 9, 3) := dk_153 0 9 (dk_at dksX7_valid_1 3 rfl rfl)
theorem dX7_valid_28 : decode cX7_valid 28 = .ok (.iconst 1, 1) := dk_4 (dk_at dksX7_valid_1 6 rfl rfl)
theorem dX7_valid_29 : decode cX7_valid 29 = .ok (.iload_n 2, 1) := dk_28 (dk_at dksX7_valid_1 7 rfl rfl)
theorem dX7_valid_30 : decode cX7_valid 30 = .ok (.ishl, 1) := dk_120 (dk_at dksX7_valid_1 8 rfl rfl)
theorem dX7_valid_31 : decode cX7_valid 31 = .ok (.goto 4, 3) := dk_167 0 4 (dk_at dksX7_valid_1 9 rfl rfl)
theorem dX7_valid_34 : decode cX7_valid 34 = .ok (.iconst 0, 1) := dk_3 (dk_at dksX7_valid_1 12 rfl rfl)
theorem dX7_valid_35 : decode cX7_valid 35 = .ok (.ior, 1) := dk_128 (dk_at dksX7_valid_1 13 rfl rfl)
theorem dX7_valid_36 : decode cX7_valid 36 = .ok (.istore_n 1, 1) := dk_60 (dk_at dksX7_valid_1 14 rfl rfl)
theorem dX7_valid_37 : decode cX7_valid 37 = .ok (.iinc 2 1, 3) := dk_132 2 1 (dk_at dksX7_valid_1 15 rfl rfl)
theorem dX7_valid_40 : decode cX7_valid 40 = .ok (.goto (-31), 3) := dk_167 255 225 (dk_at dksX7_valid_1 18 rfl rfl)
theorem dX7_valid_43 : decode cX7_valid 43 = .ok (.iload_n 1, 1) := dk_27 (dk_at dksX7_valid_1 21 rfl rfl)
theorem dX7_valid_44 : decode cX7_valid 44 = .ok (.ireturn, 1) := dk_172 (dk_at dksX7_valid_1 22 rfl rfl)
abbrev cX7_when : ByteArray := prog_20_method_82_code
def yX7_when : MethodName := ⟨RX7, "when", "(I)I"⟩
def dkwX7_when_1 : List UInt8 := [3, 167, 0, 8, 42, 27, 182, 1, 91, 172]
abbrev dktX7_when_1 : List UInt8 := dkwX7_when_1 ++ []
def dkwX7_when_0 : List UInt8 := [42, 42, 27, 182, 1, 69, 154, 0, 7, 4, 167, 0, 4, 3, 181, 0, 45, 42, 180, 0, 45, 158, 0, 7]
abbrev dktX7_when_0 : List UInt8 := dkwX7_when_0 ++ dktX7_when_1
theorem dksX7_when_0 : cX7_when.data.toList.drop 0 = dktX7_when_0 := by decide +kernel
theorem dksX7_when_1 : cX7_when.data.toList.drop 24 = dktX7_when_1 := dk_seg dksX7_when_0 24 rfl rfl
theorem dX7_when_0 : decode cX7_when 0 = .ok (.aload_n 0, 1) := dk_42 (dk_at dksX7_when_0 0 rfl rfl)
theorem dX7_when_1 : decode cX7_when 1 = .ok (.aload_n 0, 1) := dk_42 (dk_at dksX7_when_0 1 rfl rfl)
theorem dX7_when_2 : decode cX7_when 2 = .ok (.iload_n 1, 1) := dk_27 (dk_at dksX7_when_0 2 rfl rfl)
theorem dX7_when_3 : decode cX7_when 3 = .ok (.invokevirtual 325, 3) := dk_182 1 69 (dk_at dksX7_when_0 3 rfl rfl)
theorem dX7_when_6 : decode cX7_when 6 = .ok (.ifCond .ne 7, 3) := dk_154 0 7 (dk_at dksX7_when_0 6 rfl rfl)
theorem dX7_when_9 : decode cX7_when 9 = .ok (.iconst 1, 1) := dk_4 (dk_at dksX7_when_0 9 rfl rfl)
theorem dX7_when_10 : decode cX7_when 10 = .ok (.goto 4, 3) := dk_167 0 4 (dk_at dksX7_when_0 10 rfl rfl)
theorem dX7_when_13 : decode cX7_when 13 = .ok (.iconst 0, 1) := dk_3 (dk_at dksX7_when_0 13 rfl rfl)
theorem dX7_when_14 : decode cX7_when 14 = .ok (.putfield 45, 3) := dk_181 0 45 (dk_at dksX7_when_0 14 rfl rfl)
theorem dX7_when_17 : decode cX7_when 17 = .ok (.aload_n 0, 1) := dk_42 (dk_at dksX7_when_0 17 rfl rfl)
theorem dX7_when_18 : decode cX7_when 18 = .ok (.getfield 45, 3) := dk_180 0 45 (dk_at dksX7_when_0 18 rfl rfl)
theorem dX7_when_21 : decode cX7_when 21 = .ok (.ifCond .le 7, 3) := dk_158 0 7 (dk_at dksX7_when_0 21 rfl rfl)
theorem dX7_when_24 : decode cX7_when 24 = .ok (.iconst 0, 1) := dk_3 (dk_at dksX7_when_1 0 rfl rfl)
theorem dX7_when_25 : decode cX7_when 25 = .ok (.goto 8, 3) := dk_167 0 8 (dk_at dksX7_when_1 1 rfl rfl)
theorem dX7_when_28 : decode cX7_when 28 = .ok (.aload_n 0, 1) := dk_42 (dk_at dksX7_when_1 4 rfl rfl)
theorem dX7_when_29 : decode cX7_when 29 = .ok (.iload_n 1, 1) := dk_27 (dk_at dksX7_when_1 5 rfl rfl)
theorem dX7_when_30 : decode cX7_when 30 = .ok (.invokevirtual 347, 3) := dk_182 1 91 (dk_at dksX7_when_1 6 rfl rfl)
theorem dX7_when_33 : decode cX7_when 33 = .ok (.ireturn, 1) := dk_172 (dk_at dksX7_when_1 9 rfl rfl)
abbrev cX7_due : ByteArray := prog_20_method_83_code
def yX7_due : MethodName := ⟨RX7, "due", "(I)I"⟩
def dkwX7_due_1 : List UInt8 := [3, 167, 0, 11, 42, 27, 16, 11, 3, 182, 1, 87, 172]
abbrev dktX7_due_1 : List UInt8 := dkwX7_due_1 ++ []
def dkwX7_due_0 : List UInt8 := [42, 42, 27, 182, 1, 69, 154, 0, 7, 4, 167, 0, 4, 3, 181, 0, 45, 42, 180, 0, 45, 158, 0, 7]
abbrev dktX7_due_0 : List UInt8 := dkwX7_due_0 ++ dktX7_due_1
theorem dksX7_due_0 : cX7_due.data.toList.drop 0 = dktX7_due_0 := by decide +kernel
theorem dksX7_due_1 : cX7_due.data.toList.drop 24 = dktX7_due_1 := dk_seg dksX7_due_0 24 rfl rfl
theorem dX7_due_0 : decode cX7_due 0 = .ok (.aload_n 0, 1) := dk_42 (dk_at dksX7_due_0 0 rfl rfl)
theorem dX7_due_1 : decode cX7_due 1 = .ok (.aload_n 0, 1) := dk_42 (dk_at dksX7_due_0 1 rfl rfl)
theorem dX7_due_2 : decode cX7_due 2 = .ok (.iload_n 1, 1) := dk_27 (dk_at dksX7_due_0 2 rfl rfl)
theorem dX7_due_3 : decode cX7_due 3 = .ok (.invokevirtual 325, 3) := dk_182 1 69 (dk_at dksX7_due_0 3 rfl rfl)
theorem dX7_due_6 : decode cX7_due 6 = .ok (.ifCond .ne 7, 3) := dk_154 0 7 (dk_at dksX7_due_0 6 rfl rfl)
theorem dX7_due_9 : decode cX7_due 9 = .ok (.iconst 1, 1) := dk_4 (dk_at dksX7_due_0 9 rfl rfl)
theorem dX7_due_10 : decode cX7_due 10 = .ok (.goto 4, 3) := dk_167 0 4 (dk_at dksX7_due_0 10 rfl rfl)
theorem dX7_due_13 : decode cX7_due 13 = .ok (.iconst 0, 1) := dk_3 (dk_at dksX7_due_0 13 rfl rfl)
theorem dX7_due_14 : decode cX7_due 14 = .ok (.putfield 45, 3) := dk_181 0 45 (dk_at dksX7_due_0 14 rfl rfl)
theorem dX7_due_17 : decode cX7_due 17 = .ok (.aload_n 0, 1) := dk_42 (dk_at dksX7_due_0 17 rfl rfl)
theorem dX7_due_18 : decode cX7_due 18 = .ok (.getfield 45, 3) := dk_180 0 45 (dk_at dksX7_due_0 18 rfl rfl)
theorem dX7_due_21 : decode cX7_due 21 = .ok (.ifCond .le 7, 3) := dk_158 0 7 (dk_at dksX7_due_0 21 rfl rfl)
theorem dX7_due_24 : decode cX7_due 24 = .ok (.iconst 0, 1) := dk_3 (dk_at dksX7_due_1 0 rfl rfl)
theorem dX7_due_25 : decode cX7_due 25 = .ok (.goto 11, 3) := dk_167 0 11 (dk_at dksX7_due_1 1 rfl rfl)
theorem dX7_due_28 : decode cX7_due 28 = .ok (.aload_n 0, 1) := dk_42 (dk_at dksX7_due_1 4 rfl rfl)
theorem dX7_due_29 : decode cX7_due 29 = .ok (.iload_n 1, 1) := dk_27 (dk_at dksX7_due_1 5 rfl rfl)
theorem dX7_due_30 : decode cX7_due 30 = .ok (.bipush 11, 2) := dk_16 11 (dk_at dksX7_due_1 6 rfl rfl)
theorem dX7_due_32 : decode cX7_due 32 = .ok (.iconst 0, 1) := dk_3 (dk_at dksX7_due_1 8 rfl rfl)
theorem dX7_due_33 : decode cX7_due 33 = .ok (.invokevirtual 343, 3) := dk_182 1 87 (dk_at dksX7_due_1 9 rfl rfl)
theorem dX7_due_36 : decode cX7_due 36 = .ok (.ireturn, 1) := dk_172 (dk_at dksX7_due_1 12 rfl rfl)
abbrev cX7_ruin : ByteArray := prog_20_method_85_code
def yX7_ruin : MethodName := ⟨RX7, "ruin", "(Z)I"⟩
def dkwX7_ruin_3 : List UInt8 := [167, 255, 227, 42, 3, 182, 1, 44, 54, 5, 132, 3, 1, 167, 255, 187, 42, 182, 0, 209, 28, 172]
abbrev dktX7_ruin_3 : List UInt8 := dkwX7_ruin_3 ++ []
def dkwX7_ruin_2 : List UInt8 := [21, 5, 184, 0, 56, 153, 0, 14, 27, 153, 0, 8, 21, 5, 167, 0, 4, 29, 61, 132, 5, 255]
abbrev dktX7_ruin_2 : List UInt8 := dkwX7_ruin_2 ++ dktX7_ruin_3
def dkwX7_ruin_1 : List UInt8 := [42, 182, 1, 94, 54, 4, 42, 180, 0, 7, 6, 46, 4, 100, 54, 5, 21, 5, 155, 0, 30, 21, 4]
abbrev dktX7_ruin_1 : List UInt8 := dkwX7_ruin_1 ++ dktX7_ruin_2
def dkwX7_ruin_0 : List UInt8 := [42, 3, 181, 0, 45, 42, 182, 0, 199, 2, 61, 3, 62, 29, 16, 80, 163, 0, 69, 28, 2, 160, 0, 64]
abbrev dktX7_ruin_0 : List UInt8 := dkwX7_ruin_0 ++ dktX7_ruin_1
theorem dksX7_ruin_0 : cX7_ruin.data.toList.drop 0 = dktX7_ruin_0 := by decide +kernel
theorem dksX7_ruin_1 : cX7_ruin.data.toList.drop 24 = dktX7_ruin_1 := dk_seg dksX7_ruin_0 24 rfl rfl
theorem dksX7_ruin_2 : cX7_ruin.data.toList.drop 47 = dktX7_ruin_2 := dk_seg dksX7_ruin_1 23 rfl rfl
theorem dksX7_ruin_3 : cX7_ruin.data.toList.drop 69 = dktX7_ruin_3 := dk_seg dksX7_ruin_2 22 rfl rfl
theorem dX7_ruin_0 : decode cX7_ruin 0 = .ok (.aload_n 0, 1) := dk_42 (dk_at dksX7_ruin_0 0 rfl rfl)
theorem dX7_ruin_1 : decode cX7_ruin 1 = .ok (.iconst 0, 1) := dk_3 (dk_at dksX7_ruin_0 1 rfl rfl)
theorem dX7_ruin_2 : decode cX7_ruin 2 = .ok (.putfield 45, 3) := dk_181 0 45 (dk_at dksX7_ruin_0 2 rfl rfl)
theorem dX7_ruin_5 : decode cX7_ruin 5 = .ok (.aload_n 0, 1) := dk_42 (dk_at dksX7_ruin_0 5 rfl rfl)
theorem dX7_ruin_6 : decode cX7_ruin 6 = .ok (.invokevirtual 199, 3) := dk_182 0 199 (dk_at dksX7_ruin_0 6 rfl rfl)
theorem dX7_ruin_9 : decode cX7_ruin 9 = .ok (.iconst (-1), 1) := dk_2 (dk_at dksX7_ruin_0 9 rfl rfl)
theorem dX7_ruin_10 : decode cX7_ruin 10 = .ok (.istore_n 2, 1) := dk_61 (dk_at dksX7_ruin_0 10 rfl rfl)
theorem dX7_ruin_11 : decode cX7_ruin 11 = .ok (.iconst 0, 1) := dk_3 (dk_at dksX7_ruin_0 11 rfl rfl)
theorem dX7_ruin_12 : decode cX7_ruin 12 = .ok (.istore_n 3, 1) := dk_62 (dk_at dksX7_ruin_0 12 rfl rfl)
theorem dX7_ruin_13 : decode cX7_ruin 13 = .ok (.iload_n 3, 1) := dk_29 (dk_at dksX7_ruin_0 13 rfl rfl)
theorem dX7_ruin_14 : decode cX7_ruin 14 = .ok (.bipush 80, 2) := dk_16 80 (dk_at dksX7_ruin_0 14 rfl rfl)
theorem dX7_ruin_16 : decode cX7_ruin 16 = .ok (.if_icmp .gt 69, 3) := dk_163 0 69 (dk_at dksX7_ruin_0 16 rfl rfl)
theorem dX7_ruin_19 : decode cX7_ruin 19 = .ok (.iload_n 2, 1) := dk_28 (dk_at dksX7_ruin_0 19 rfl rfl)
theorem dX7_ruin_20 : decode cX7_ruin 20 = .ok (.iconst (-1), 1) := dk_2 (dk_at dksX7_ruin_0 20 rfl rfl)
theorem dX7_ruin_21 : decode cX7_ruin 21 = .ok (.if_icmp .ne 64, 3) := dk_160 0 64 (dk_at dksX7_ruin_0 21 rfl rfl)
theorem dX7_ruin_24 : decode cX7_ruin 24 = .ok (.aload_n 0, 1) := dk_42 (dk_at dksX7_ruin_1 0 rfl rfl)
theorem dX7_ruin_25 : decode cX7_ruin 25 = .ok (.invokevirtual 350, 3) := dk_182 1 94 (dk_at dksX7_ruin_1 1 rfl rfl)
theorem dX7_ruin_28 : decode cX7_ruin 28 = .ok (.istore 4, 2) := dk_54 4 (dk_at dksX7_ruin_1 4 rfl rfl)
theorem dX7_ruin_30 : decode cX7_ruin 30 = .ok (.aload_n 0, 1) := dk_42 (dk_at dksX7_ruin_1 6 rfl rfl)
theorem dX7_ruin_31 : decode cX7_ruin 31 = .ok (.getfield 7, 3) := dk_180 0 7 (dk_at dksX7_ruin_1 7 rfl rfl)
theorem dX7_ruin_34 : decode cX7_ruin 34 = .ok (.iconst 3, 1) := dk_6 (dk_at dksX7_ruin_1 10 rfl rfl)
theorem dX7_ruin_35 : decode cX7_ruin 35 = .ok (.iaload, 1) := dk_46 (dk_at dksX7_ruin_1 11 rfl rfl)
theorem dX7_ruin_36 : decode cX7_ruin 36 = .ok (.iconst 1, 1) := dk_4 (dk_at dksX7_ruin_1 12 rfl rfl)
theorem dX7_ruin_37 : decode cX7_ruin 37 = .ok (.isub, 1) := dk_100 (dk_at dksX7_ruin_1 13 rfl rfl)
theorem dX7_ruin_38 : decode cX7_ruin 38 = .ok (.istore 5, 2) := dk_54 5 (dk_at dksX7_ruin_1 14 rfl rfl)
theorem dX7_ruin_40 : decode cX7_ruin 40 = .ok (.iload 5, 2) := dk_21 5 (dk_at dksX7_ruin_1 16 rfl rfl)
theorem dX7_ruin_42 : decode cX7_ruin 42 = .ok (.ifCond .lt 30, 3) := dk_155 0 30 (dk_at dksX7_ruin_1 18 rfl rfl)
theorem dX7_ruin_45 : decode cX7_ruin 45 = .ok (.iload 4, 2) := dk_21 4 (dk_at dksX7_ruin_1 21 rfl rfl)
theorem dX7_ruin_47 : decode cX7_ruin 47 = .ok (.iload 5, 2) := dk_21 5 (dk_at dksX7_ruin_2 0 rfl rfl)
theorem dX7_ruin_49 : decode cX7_ruin 49 = .ok (.invokestatic 56, 3) := dk_184 0 56 (dk_at dksX7_ruin_2 2 rfl rfl)
theorem dX7_ruin_52 : decode cX7_ruin 52 = .ok (.ifCond .eq 14, 3) := dk_153 0 14 (dk_at dksX7_ruin_2 5 rfl rfl)
theorem dX7_ruin_55 : decode cX7_ruin 55 = .ok (.iload_n 1, 1) := dk_27 (dk_at dksX7_ruin_2 8 rfl rfl)
theorem dX7_ruin_56 : decode cX7_ruin 56 = .ok (.ifCond .eq 8, 3) := dk_153 0 8 (dk_at dksX7_ruin_2 9 rfl rfl)
theorem dX7_ruin_59 : decode cX7_ruin 59 = .ok (.iload 5, 2) := dk_21 5 (dk_at dksX7_ruin_2 12 rfl rfl)
theorem dX7_ruin_61 : decode cX7_ruin 61 = .ok (.goto 4, 3) := dk_167 0 4 (dk_at dksX7_ruin_2 14 rfl rfl)
theorem dX7_ruin_64 : decode cX7_ruin 64 = .ok (.iload_n 3, 1) := dk_29 (dk_at dksX7_ruin_2 17 rfl rfl)
theorem dX7_ruin_65 : decode cX7_ruin 65 = .ok (.istore_n 2, 1) := dk_61 (dk_at dksX7_ruin_2 18 rfl rfl)
theorem dX7_ruin_66 : decode cX7_ruin 66 = .ok (.iinc 5 (-1), 3) := dk_132 5 255 (dk_at dksX7_ruin_2 19 rfl rfl)
theorem dX7_ruin_69 : decode cX7_ruin 69 = .ok (.goto (-29), 3) := dk_167 255 227 (dk_at dksX7_ruin_3 0 rfl rfl)
theorem dX7_ruin_72 : decode cX7_ruin 72 = .ok (.aload_n 0, 1) := dk_42 (dk_at dksX7_ruin_3 3 rfl rfl)
theorem dX7_ruin_73 : decode cX7_ruin 73 = .ok (.iconst 0, 1) := dk_3 (dk_at dksX7_ruin_3 4 rfl rfl)
theorem dX7_ruin_74 : decode cX7_ruin 74 = .ok (.invokevirtual 300, 3) := dk_182 1 44 (dk_at dksX7_ruin_3 5 rfl rfl)
theorem dX7_ruin_77 : decode cX7_ruin 77 = .ok (.istore 5, 2) := dk_54 5 (dk_at dksX7_ruin_3 8 rfl rfl)
theorem dX7_ruin_79 : decode cX7_ruin 79 = .ok (.iinc 3 1, 3) := dk_132 3 1 (dk_at dksX7_ruin_3 10 rfl rfl)
theorem dX7_ruin_82 : decode cX7_ruin 82 = .ok (.goto (-69), 3) := dk_167 255 187 (dk_at dksX7_ruin_3 13 rfl rfl)
theorem dX7_ruin_85 : decode cX7_ruin 85 = .ok (.aload_n 0, 1) := dk_42 (dk_at dksX7_ruin_3 16 rfl rfl)
theorem dX7_ruin_86 : decode cX7_ruin 86 = .ok (.invokevirtual 209, 3) := dk_182 0 209 (dk_at dksX7_ruin_3 17 rfl rfl)
theorem dX7_ruin_89 : decode cX7_ruin 89 = .ok (.iload_n 2, 1) := dk_28 (dk_at dksX7_ruin_3 20 rfl rfl)
theorem dX7_ruin_90 : decode cX7_ruin 90 = .ok (.ireturn, 1) := dk_172 (dk_at dksX7_ruin_3 21 rfl rfl)
abbrev cX7_brokenOnes : ByteArray := prog_20_method_84_code
def yX7_brokenOnes : MethodName := ⟨RX7, "brokenOnes", "()I"⟩
def dkwX7_brokenOnes_1 : List UInt8 := [96, 4, 96, 46, 28, 120, 128, 60, 132, 2, 1, 167, 255, 225, 27, 172]
abbrev dktX7_brokenOnes_1 : List UInt8 := dkwX7_brokenOnes_1 ++ []
def dkwX7_brokenOnes_0 : List UInt8 := [3, 60, 3, 61, 28, 42, 180, 0, 7, 6, 46, 162, 0, 27, 27, 42, 180, 0, 7, 16, 15, 5, 28, 104]
abbrev dktX7_brokenOnes_0 : List UInt8 := dkwX7_brokenOnes_0 ++ dktX7_brokenOnes_1
theorem dksX7_brokenOnes_0 : cX7_brokenOnes.data.toList.drop 0 = dktX7_brokenOnes_0 := by decide +kernel
theorem dksX7_brokenOnes_1 : cX7_brokenOnes.data.toList.drop 24 = dktX7_brokenOnes_1 := dk_seg dksX7_brokenOnes_0 24 rfl rfl
theorem dX7_brokenOnes_0 : decode cX7_brokenOnes 0 = .ok (.iconst 0, 1) := dk_3 (dk_at dksX7_brokenOnes_0 0 rfl rfl)
theorem dX7_brokenOnes_1 : decode cX7_brokenOnes 1 = .ok (.istore_n 1, 1) := dk_60 (dk_at dksX7_brokenOnes_0 1 rfl rfl)
theorem dX7_brokenOnes_2 : decode cX7_brokenOnes 2 = .ok (.iconst 0, 1) := dk_3 (dk_at dksX7_brokenOnes_0 2 rfl rfl)
theorem dX7_brokenOnes_3 : decode cX7_brokenOnes 3 = .ok (.istore_n 2, 1) := dk_61 (dk_at dksX7_brokenOnes_0 3 rfl rfl)
theorem dX7_brokenOnes_4 : decode cX7_brokenOnes 4 = .ok (.iload_n 2, 1) := dk_28 (dk_at dksX7_brokenOnes_0 4 rfl rfl)
theorem dX7_brokenOnes_5 : decode cX7_brokenOnes 5 = .ok (.aload_n 0, 1) := dk_42 (dk_at dksX7_brokenOnes_0 5 rfl rfl)
theorem dX7_brokenOnes_6 : decode cX7_brokenOnes 6 = .ok (.getfield 7, 3) := dk_180 0 7 (dk_at dksX7_brokenOnes_0 6 rfl rfl)
theorem dX7_brokenOnes_9 : decode cX7_brokenOnes 9 = .ok (.iconst 3, 1) := dk_6 (dk_at dksX7_brokenOnes_0 9 rfl rfl)
theorem dX7_brokenOnes_10 : decode cX7_brokenOnes 10 = .ok (.iaload, 1) := dk_46 (dk_at dksX7_brokenOnes_0 10 rfl rfl)
theorem dX7_brokenOnes_11 : decode cX7_brokenOnes 11 = .ok (.if_icmp .ge 27, 3) := dk_162 0 27 (dk_at dksX7_brokenOnes_0 11 rfl rfl)
theorem dX7_brokenOnes_14 : decode cX7_brokenOnes 14 = .ok (.iload_n 1, 1) := dk_27 (dk_at dksX7_brokenOnes_0 14 rfl rfl)
theorem dX7_brokenOnes_15 : decode cX7_brokenOnes 15 = .ok (.aload_n 0, 1) := dk_42 (dk_at dksX7_brokenOnes_0 15 rfl rfl)
theorem dX7_brokenOnes_16 : decode cX7_brokenOnes 16 = .ok (.getfield 7, 3) := dk_180 0 7 (dk_at dksX7_brokenOnes_0 16 rfl rfl)
theorem dX7_brokenOnes_19 : decode cX7_brokenOnes 19 = .ok (.bipush 15, 2) := dk_16 15 (dk_at dksX7_brokenOnes_0 19 rfl rfl)
theorem dX7_brokenOnes_21 : decode cX7_brokenOnes 21 = .ok (.iconst 2, 1) := dk_5 (dk_at dksX7_brokenOnes_0 21 rfl rfl)
theorem dX7_brokenOnes_22 : decode cX7_brokenOnes 22 = .ok (.iload_n 2, 1) := dk_28 (dk_at dksX7_brokenOnes_0 22 rfl rfl)
theorem dX7_brokenOnes_23 : decode cX7_brokenOnes 23 = .ok (.imul, 1) := dk_104 (dk_at dksX7_brokenOnes_0 23 rfl rfl)
theorem dX7_brokenOnes_24 : decode cX7_brokenOnes 24 = .ok (.iadd, 1) := dk_96 (dk_at dksX7_brokenOnes_1 0 rfl rfl)
theorem dX7_brokenOnes_25 : decode cX7_brokenOnes 25 = .ok (.iconst 1, 1) := dk_4 (dk_at dksX7_brokenOnes_1 1 rfl rfl)
theorem dX7_brokenOnes_26 : decode cX7_brokenOnes 26 = .ok (.iadd, 1) := dk_96 (dk_at dksX7_brokenOnes_1 2 rfl rfl)
theorem dX7_brokenOnes_27 : decode cX7_brokenOnes 27 = .ok (.iaload, 1) := dk_46 (dk_at dksX7_brokenOnes_1 3 rfl rfl)
theorem dX7_brokenOnes_28 : decode cX7_brokenOnes 28 = .ok (.iload_n 2, 1) := dk_28 (dk_at dksX7_brokenOnes_1 4 rfl rfl)
theorem dX7_brokenOnes_29 : decode cX7_brokenOnes 29 = .ok (.ishl, 1) := dk_120 (dk_at dksX7_brokenOnes_1 5 rfl rfl)
theorem dX7_brokenOnes_30 : decode cX7_brokenOnes 30 = .ok (.ior, 1) := dk_128 (dk_at dksX7_brokenOnes_1 6 rfl rfl)
theorem dX7_brokenOnes_31 : decode cX7_brokenOnes 31 = .ok (.istore_n 1, 1) := dk_60 (dk_at dksX7_brokenOnes_1 7 rfl rfl)
theorem dX7_brokenOnes_32 : decode cX7_brokenOnes 32 = .ok (.iinc 2 1, 3) := dk_132 2 1 (dk_at dksX7_brokenOnes_1 8 rfl rfl)
theorem dX7_brokenOnes_35 : decode cX7_brokenOnes 35 = .ok (.goto (-31), 3) := dk_167 255 225 (dk_at dksX7_brokenOnes_1 11 rfl rfl)
theorem dX7_brokenOnes_38 : decode cX7_brokenOnes 38 = .ok (.iload_n 1, 1) := dk_27 (dk_at dksX7_brokenOnes_1 14 rfl rfl)
theorem dX7_brokenOnes_39 : decode cX7_brokenOnes 39 = .ok (.ireturn, 1) := dk_172 (dk_at dksX7_brokenOnes_1 15 rfl rfl)
abbrev cX7_wealth : ByteArray := prog_20_method_86_code
def yX7_wealth : MethodName := ⟨RX7, "wealth", "(II)I"⟩
def dkwX7_wealth_2 : List UInt8 := [182, 1, 78, 62, 42, 27, 182, 1, 26, 54, 4, 42, 182, 0, 209, 21, 4, 172]
abbrev dktX7_wealth_2 : List UInt8 := dkwX7_wealth_2 ++ []
def dkwX7_wealth_1 : List UInt8 := [167, 0, 4, 3, 181, 0, 45, 42, 180, 0, 45, 158, 0, 5, 3, 172, 42, 182, 0, 199, 42, 28, 3]
abbrev dktX7_wealth_1 : List UInt8 := dkwX7_wealth_1 ++ dktX7_wealth_2
def dkwX7_wealth_0 : List UInt8 := [42, 42, 27, 182, 1, 50, 154, 0, 7, 4, 167, 0, 18, 28, 3, 16, 80, 184, 0, 48, 154, 0, 7, 5]
abbrev dktX7_wealth_0 : List UInt8 := dkwX7_wealth_0 ++ dktX7_wealth_1
theorem dksX7_wealth_0 : cX7_wealth.data.toList.drop 0 = dktX7_wealth_0 := by decide +kernel
theorem dksX7_wealth_1 : cX7_wealth.data.toList.drop 24 = dktX7_wealth_1 := dk_seg dksX7_wealth_0 24 rfl rfl
theorem dksX7_wealth_2 : cX7_wealth.data.toList.drop 47 = dktX7_wealth_2 := dk_seg dksX7_wealth_1 23 rfl rfl
theorem dX7_wealth_0 : decode cX7_wealth 0 = .ok (.aload_n 0, 1) := dk_42 (dk_at dksX7_wealth_0 0 rfl rfl)
theorem dX7_wealth_1 : decode cX7_wealth 1 = .ok (.aload_n 0, 1) := dk_42 (dk_at dksX7_wealth_0 1 rfl rfl)
theorem dX7_wealth_2 : decode cX7_wealth 2 = .ok (.iload_n 1, 1) := dk_27 (dk_at dksX7_wealth_0 2 rfl rfl)
theorem dX7_wealth_3 : decode cX7_wealth 3 = .ok (.invokevirtual 306, 3) := dk_182 1 50 (dk_at dksX7_wealth_0 3 rfl rfl)
theorem dX7_wealth_6 : decode cX7_wealth 6 = .ok (.ifCond .ne 7, 3) := dk_154 0 7 (dk_at dksX7_wealth_0 6 rfl rfl)
theorem dX7_wealth_9 : decode cX7_wealth 9 = .ok (.iconst 1, 1) := dk_4 (dk_at dksX7_wealth_0 9 rfl rfl)
theorem dX7_wealth_10 : decode cX7_wealth 10 = .ok (.goto 18, 3) := dk_167 0 18 (dk_at dksX7_wealth_0 10 rfl rfl)
theorem dX7_wealth_13 : decode cX7_wealth 13 = .ok (.iload_n 2, 1) := dk_28 (dk_at dksX7_wealth_0 13 rfl rfl)
theorem dX7_wealth_14 : decode cX7_wealth 14 = .ok (.iconst 0, 1) := dk_3 (dk_at dksX7_wealth_0 14 rfl rfl)
theorem dX7_wealth_15 : decode cX7_wealth 15 = .ok (.bipush 80, 2) := dk_16 80 (dk_at dksX7_wealth_0 15 rfl rfl)
theorem dX7_wealth_17 : decode cX7_wealth 17 = .ok (.invokestatic 48, 3) := dk_184 0 48 (dk_at dksX7_wealth_0 17 rfl rfl)
theorem dX7_wealth_20 : decode cX7_wealth 20 = .ok (.ifCond .ne 7, 3) := dk_154 0 7 (dk_at dksX7_wealth_0 20 rfl rfl)
theorem dX7_wealth_23 : decode cX7_wealth 23 = .ok (.iconst 2, 1) := dk_5 (dk_at dksX7_wealth_0 23 rfl rfl)
theorem dX7_wealth_24 : decode cX7_wealth 24 = .ok (.goto 4, 3) := dk_167 0 4 (dk_at dksX7_wealth_1 0 rfl rfl)
theorem dX7_wealth_27 : decode cX7_wealth 27 = .ok (.iconst 0, 1) := dk_3 (dk_at dksX7_wealth_1 3 rfl rfl)
theorem dX7_wealth_28 : decode cX7_wealth 28 = .ok (.putfield 45, 3) := dk_181 0 45 (dk_at dksX7_wealth_1 4 rfl rfl)
theorem dX7_wealth_31 : decode cX7_wealth 31 = .ok (.aload_n 0, 1) := dk_42 (dk_at dksX7_wealth_1 7 rfl rfl)
theorem dX7_wealth_32 : decode cX7_wealth 32 = .ok (.getfield 45, 3) := dk_180 0 45 (dk_at dksX7_wealth_1 8 rfl rfl)
theorem dX7_wealth_35 : decode cX7_wealth 35 = .ok (.ifCond .le 5, 3) := dk_158 0 5 (dk_at dksX7_wealth_1 11 rfl rfl)
theorem dX7_wealth_38 : decode cX7_wealth 38 = .ok (.iconst 0, 1) := dk_3 (dk_at dksX7_wealth_1 14 rfl rfl)
theorem dX7_wealth_39 : decode cX7_wealth 39 = .ok (.ireturn, 1) := dk_172 (dk_at dksX7_wealth_1 15 rfl rfl)
theorem dX7_wealth_40 : decode cX7_wealth 40 = .ok (.aload_n 0, 1) := dk_42 (dk_at dksX7_wealth_1 16 rfl rfl)
theorem dX7_wealth_41 : decode cX7_wealth 41 = .ok (.invokevirtual 199, 3) := dk_182 0 199 (dk_at dksX7_wealth_1 17 rfl rfl)
theorem dX7_wealth_44 : decode cX7_wealth 44 = .ok (.aload_n 0, 1) := dk_42 (dk_at dksX7_wealth_1 20 rfl rfl)
theorem dX7_wealth_45 : decode cX7_wealth 45 = .ok (.iload_n 2, 1) := dk_28 (dk_at dksX7_wealth_1 21 rfl rfl)
theorem dX7_wealth_46 : decode cX7_wealth 46 = .ok (.iconst 0, 1) := dk_3 (dk_at dksX7_wealth_1 22 rfl rfl)
theorem dX7_wealth_47 : decode cX7_wealth 47 = .ok (.invokevirtual 334, 3) := dk_182 1 78 (dk_at dksX7_wealth_2 0 rfl rfl)
theorem dX7_wealth_50 : decode cX7_wealth 50 = .ok (.istore_n 3, 1) := dk_62 (dk_at dksX7_wealth_2 3 rfl rfl)
theorem dX7_wealth_51 : decode cX7_wealth 51 = .ok (.aload_n 0, 1) := dk_42 (dk_at dksX7_wealth_2 4 rfl rfl)
theorem dX7_wealth_52 : decode cX7_wealth 52 = .ok (.iload_n 1, 1) := dk_27 (dk_at dksX7_wealth_2 5 rfl rfl)
theorem dX7_wealth_53 : decode cX7_wealth 53 = .ok (.invokevirtual 282, 3) := dk_182 1 26 (dk_at dksX7_wealth_2 6 rfl rfl)
theorem dX7_wealth_56 : decode cX7_wealth 56 = .ok (.istore 4, 2) := dk_54 4 (dk_at dksX7_wealth_2 9 rfl rfl)
theorem dX7_wealth_58 : decode cX7_wealth 58 = .ok (.aload_n 0, 1) := dk_42 (dk_at dksX7_wealth_2 11 rfl rfl)
theorem dX7_wealth_59 : decode cX7_wealth 59 = .ok (.invokevirtual 209, 3) := dk_182 0 209 (dk_at dksX7_wealth_2 12 rfl rfl)
theorem dX7_wealth_62 : decode cX7_wealth 62 = .ok (.iload 4, 2) := dk_21 4 (dk_at dksX7_wealth_2 15 rfl rfl)
theorem dX7_wealth_64 : decode cX7_wealth 64 = .ok (.ireturn, 1) := dk_172 (dk_at dksX7_wealth_2 17 rfl rfl)
abbrev cX7_chain : ByteArray := prog_20_method_88_code
def yX7_chain : MethodName := ⟨RX7, "chain", "(I)I"⟩
def dkwX7_chain_1 : List UInt8 := [3, 167, 0, 8, 42, 27, 182, 1, 97, 172]
abbrev dktX7_chain_1 : List UInt8 := dkwX7_chain_1 ++ []
def dkwX7_chain_0 : List UInt8 := [42, 42, 27, 182, 1, 69, 154, 0, 7, 4, 167, 0, 4, 3, 181, 0, 45, 42, 180, 0, 45, 158, 0, 7]
abbrev dktX7_chain_0 : List UInt8 := dkwX7_chain_0 ++ dktX7_chain_1
theorem dksX7_chain_0 : cX7_chain.data.toList.drop 0 = dktX7_chain_0 := by decide +kernel
theorem dksX7_chain_1 : cX7_chain.data.toList.drop 24 = dktX7_chain_1 := dk_seg dksX7_chain_0 24 rfl rfl
theorem dX7_chain_0 : decode cX7_chain 0 = .ok (.aload_n 0, 1) := dk_42 (dk_at dksX7_chain_0 0 rfl rfl)
theorem dX7_chain_1 : decode cX7_chain 1 = .ok (.aload_n 0, 1) := dk_42 (dk_at dksX7_chain_0 1 rfl rfl)
theorem dX7_chain_2 : decode cX7_chain 2 = .ok (.iload_n 1, 1) := dk_27 (dk_at dksX7_chain_0 2 rfl rfl)
theorem dX7_chain_3 : decode cX7_chain 3 = .ok (.invokevirtual 325, 3) := dk_182 1 69 (dk_at dksX7_chain_0 3 rfl rfl)
theorem dX7_chain_6 : decode cX7_chain 6 = .ok (.ifCond .ne 7, 3) := dk_154 0 7 (dk_at dksX7_chain_0 6 rfl rfl)
theorem dX7_chain_9 : decode cX7_chain 9 = .ok (.iconst 1, 1) := dk_4 (dk_at dksX7_chain_0 9 rfl rfl)
theorem dX7_chain_10 : decode cX7_chain 10 = .ok (.goto 4, 3) := dk_167 0 4 (dk_at dksX7_chain_0 10 rfl rfl)
theorem dX7_chain_13 : decode cX7_chain 13 = .ok (.iconst 0, 1) := dk_3 (dk_at dksX7_chain_0 13 rfl rfl)
theorem dX7_chain_14 : decode cX7_chain 14 = .ok (.putfield 45, 3) := dk_181 0 45 (dk_at dksX7_chain_0 14 rfl rfl)
theorem dX7_chain_17 : decode cX7_chain 17 = .ok (.aload_n 0, 1) := dk_42 (dk_at dksX7_chain_0 17 rfl rfl)
theorem dX7_chain_18 : decode cX7_chain 18 = .ok (.getfield 45, 3) := dk_180 0 45 (dk_at dksX7_chain_0 18 rfl rfl)
theorem dX7_chain_21 : decode cX7_chain 21 = .ok (.ifCond .le 7, 3) := dk_158 0 7 (dk_at dksX7_chain_0 21 rfl rfl)
theorem dX7_chain_24 : decode cX7_chain 24 = .ok (.iconst 0, 1) := dk_3 (dk_at dksX7_chain_1 0 rfl rfl)
theorem dX7_chain_25 : decode cX7_chain 25 = .ok (.goto 8, 3) := dk_167 0 8 (dk_at dksX7_chain_1 1 rfl rfl)
theorem dX7_chain_28 : decode cX7_chain 28 = .ok (.aload_n 0, 1) := dk_42 (dk_at dksX7_chain_1 4 rfl rfl)
theorem dX7_chain_29 : decode cX7_chain 29 = .ok (.iload_n 1, 1) := dk_27 (dk_at dksX7_chain_1 5 rfl rfl)
theorem dX7_chain_30 : decode cX7_chain 30 = .ok (.invokevirtual 353, 3) := dk_182 1 97 (dk_at dksX7_chain_1 6 rfl rfl)
theorem dX7_chain_33 : decode cX7_chain 33 = .ok (.ireturn, 1) := dk_172 (dk_at dksX7_chain_1 9 rfl rfl)
abbrev cX7_chainOf : ByteArray := prog_20_method_87_code
def yX7_chainOf : MethodName := ⟨RX7, "chainOf", "(I)I"⟩
def dkwX7_chainOf_1 : List UInt8 := [167, 255, 238, 28, 172]
abbrev dktX7_chainOf_1 : List UInt8 := dkwX7_chainOf_1 ++ []
def dkwX7_chainOf_0 : List UInt8 := [3, 61, 27, 62, 29, 2, 159, 0, 19, 28, 4, 29, 120, 128, 61, 42, 29, 8, 182, 0, 52, 62]
abbrev dktX7_chainOf_0 : List UInt8 := dkwX7_chainOf_0 ++ dktX7_chainOf_1
theorem dksX7_chainOf_0 : cX7_chainOf.data.toList.drop 0 = dktX7_chainOf_0 := by decide +kernel
theorem dksX7_chainOf_1 : cX7_chainOf.data.toList.drop 22 = dktX7_chainOf_1 := dk_seg dksX7_chainOf_0 22 rfl rfl
theorem dX7_chainOf_0 : decode cX7_chainOf 0 = .ok (.iconst 0, 1) := dk_3 (dk_at dksX7_chainOf_0 0 rfl rfl)
theorem dX7_chainOf_1 : decode cX7_chainOf 1 = .ok (.istore_n 2, 1) := dk_61 (dk_at dksX7_chainOf_0 1 rfl rfl)
theorem dX7_chainOf_2 : decode cX7_chainOf 2 = .ok (.iload_n 1, 1) := dk_27 (dk_at dksX7_chainOf_0 2 rfl rfl)
theorem dX7_chainOf_3 : decode cX7_chainOf 3 = .ok (.istore_n 3, 1) := dk_62 (dk_at dksX7_chainOf_0 3 rfl rfl)
theorem dX7_chainOf_4 : decode cX7_chainOf 4 = .ok (.iload_n 3, 1) := dk_29 (dk_at dksX7_chainOf_0 4 rfl rfl)
theorem dX7_chainOf_5 : decode cX7_chainOf 5 = .ok (.iconst (-1), 1) := dk_2 (dk_at dksX7_chainOf_0 5 rfl rfl)
theorem dX7_chainOf_6 : decode cX7_chainOf 6 = .ok (.if_icmp .eq 19, 3) := dk_159 0 19 (dk_at dksX7_chainOf_0 6 rfl rfl)
theorem dX7_chainOf_9 : decode cX7_chainOf 9 = .ok (.iload_n 2, 1) := dk_28 (dk_at dksX7_chainOf_0 9 rfl rfl)
theorem dX7_chainOf_10 : decode cX7_chainOf 10 = .ok (.iconst 1, 1) := dk_4 (dk_at dksX7_chainOf_0 10 rfl rfl)
theorem dX7_chainOf_11 : decode cX7_chainOf 11 = .ok (.iload_n 3, 1) := dk_29 (dk_at dksX7_chainOf_0 11 rfl rfl)
theorem dX7_chainOf_12 : decode cX7_chainOf 12 = .ok (.ishl, 1) := dk_120 (dk_at dksX7_chainOf_0 12 rfl rfl)
theorem dX7_chainOf_13 : decode cX7_chainOf 13 = .ok (.ior, 1) := dk_128 (dk_at dksX7_chainOf_0 13 rfl rfl)
theorem dX7_chainOf_14 : decode cX7_chainOf 14 = .ok (.istore_n 2, 1) := dk_61 (dk_at dksX7_chainOf_0 14 rfl rfl)
theorem dX7_chainOf_15 : decode cX7_chainOf 15 = .ok (.aload_n 0, 1) := dk_42 (dk_at dksX7_chainOf_0 15 rfl rfl)
theorem dX7_chainOf_16 : decode cX7_chainOf 16 = .ok (.iload_n 3, 1) := dk_29 (dk_at dksX7_chainOf_0 16 rfl rfl)
theorem dX7_chainOf_17 : decode cX7_chainOf 17 = .ok (.iconst 5, 1) := dk_8 (dk_at dksX7_chainOf_0 17 rfl rfl)
theorem dX7_chainOf_18 : decode cX7_chainOf 18 = .ok (.invokevirtual 52, 3) := dk_182 0 52 (dk_at dksX7_chainOf_0 18 rfl rfl)
theorem dX7_chainOf_21 : decode cX7_chainOf 21 = .ok (.istore_n 3, 1) := dk_62 (dk_at dksX7_chainOf_0 21 rfl rfl)
theorem dX7_chainOf_22 : decode cX7_chainOf 22 = .ok (.goto (-18), 3) := dk_167 255 238 (dk_at dksX7_chainOf_1 0 rfl rfl)
theorem dX7_chainOf_25 : decode cX7_chainOf 25 = .ok (.iload_n 2, 1) := dk_28 (dk_at dksX7_chainOf_1 3 rfl rfl)
theorem dX7_chainOf_26 : decode cX7_chainOf 26 = .ok (.ireturn, 1) := dk_172 (dk_at dksX7_chainOf_1 4 rfl rfl)
abbrev cX7_hangs : ByteArray := prog_20_method_89_code
def yX7_hangs : MethodName := ⟨RX7, "hangs", "(I)I"⟩
def dkwX7_hangs_3 : List UInt8 := [167, 255, 216, 28, 172]
abbrev dktX7_hangs_3 : List UInt8 := dkwX7_hangs_3 ++ []
def dkwX7_hangs_2 : List UInt8 := [182, 1, 97, 27, 184, 0, 56, 153, 0, 9, 4, 29, 120, 167, 0, 4, 3, 128, 61, 132, 3, 1]
abbrev dktX7_hangs_2 : List UInt8 := dkwX7_hangs_2 ++ dktX7_hangs_3
def dkwX7_hangs_1 : List UInt8 := [3, 172, 3, 61, 3, 62, 29, 42, 180, 0, 7, 8, 46, 162, 0, 36, 28, 29, 27, 159, 0, 21, 42, 29]
abbrev dktX7_hangs_1 : List UInt8 := dkwX7_hangs_1 ++ dktX7_hangs_2
def dkwX7_hangs_0 : List UInt8 := [42, 42, 27, 182, 1, 69, 154, 0, 7, 4, 167, 0, 4, 3, 181, 0, 45, 42, 180, 0, 45, 158, 0, 5]
abbrev dktX7_hangs_0 : List UInt8 := dkwX7_hangs_0 ++ dktX7_hangs_1
theorem dksX7_hangs_0 : cX7_hangs.data.toList.drop 0 = dktX7_hangs_0 := by decide +kernel
theorem dksX7_hangs_1 : cX7_hangs.data.toList.drop 24 = dktX7_hangs_1 := dk_seg dksX7_hangs_0 24 rfl rfl
theorem dksX7_hangs_2 : cX7_hangs.data.toList.drop 48 = dktX7_hangs_2 := dk_seg dksX7_hangs_1 24 rfl rfl
theorem dksX7_hangs_3 : cX7_hangs.data.toList.drop 70 = dktX7_hangs_3 := dk_seg dksX7_hangs_2 22 rfl rfl
theorem dX7_hangs_0 : decode cX7_hangs 0 = .ok (.aload_n 0, 1) := dk_42 (dk_at dksX7_hangs_0 0 rfl rfl)
theorem dX7_hangs_1 : decode cX7_hangs 1 = .ok (.aload_n 0, 1) := dk_42 (dk_at dksX7_hangs_0 1 rfl rfl)
theorem dX7_hangs_2 : decode cX7_hangs 2 = .ok (.iload_n 1, 1) := dk_27 (dk_at dksX7_hangs_0 2 rfl rfl)
theorem dX7_hangs_3 : decode cX7_hangs 3 = .ok (.invokevirtual 325, 3) := dk_182 1 69 (dk_at dksX7_hangs_0 3 rfl rfl)
theorem dX7_hangs_6 : decode cX7_hangs 6 = .ok (.ifCond .ne 7, 3) := dk_154 0 7 (dk_at dksX7_hangs_0 6 rfl rfl)
theorem dX7_hangs_9 : decode cX7_hangs 9 = .ok (.iconst 1, 1) := dk_4 (dk_at dksX7_hangs_0 9 rfl rfl)
theorem dX7_hangs_10 : decode cX7_hangs 10 = .ok (.goto 4, 3) := dk_167 0 4 (dk_at dksX7_hangs_0 10 rfl rfl)
theorem dX7_hangs_13 : decode cX7_hangs 13 = .ok (.iconst 0, 1) := dk_3 (dk_at dksX7_hangs_0 13 rfl rfl)
theorem dX7_hangs_14 : decode cX7_hangs 14 = .ok (.putfield 45, 3) := dk_181 0 45 (dk_at dksX7_hangs_0 14 rfl rfl)
theorem dX7_hangs_17 : decode cX7_hangs 17 = .ok (.aload_n 0, 1) := dk_42 (dk_at dksX7_hangs_0 17 rfl rfl)
theorem dX7_hangs_18 : decode cX7_hangs 18 = .ok (.getfield 45, 3) := dk_180 0 45 (dk_at dksX7_hangs_0 18 rfl rfl)
theorem dX7_hangs_21 : decode cX7_hangs 21 = .ok (.ifCond .le 5, 3) := dk_158 0 5 (dk_at dksX7_hangs_0 21 rfl rfl)
theorem dX7_hangs_24 : decode cX7_hangs 24 = .ok (.iconst 0, 1) := dk_3 (dk_at dksX7_hangs_1 0 rfl rfl)
theorem dX7_hangs_25 : decode cX7_hangs 25 = .ok (.ireturn, 1) := dk_172 (dk_at dksX7_hangs_1 1 rfl rfl)
theorem dX7_hangs_26 : decode cX7_hangs 26 = .ok (.iconst 0, 1) := dk_3 (dk_at dksX7_hangs_1 2 rfl rfl)
theorem dX7_hangs_27 : decode cX7_hangs 27 = .ok (.istore_n 2, 1) := dk_61 (dk_at dksX7_hangs_1 3 rfl rfl)
theorem dX7_hangs_28 : decode cX7_hangs 28 = .ok (.iconst 0, 1) := dk_3 (dk_at dksX7_hangs_1 4 rfl rfl)
theorem dX7_hangs_29 : decode cX7_hangs 29 = .ok (.istore_n 3, 1) := dk_62 (dk_at dksX7_hangs_1 5 rfl rfl)
theorem dX7_hangs_30 : decode cX7_hangs 30 = .ok (.iload_n 3, 1) := dk_29 (dk_at dksX7_hangs_1 6 rfl rfl)
theorem dX7_hangs_31 : decode cX7_hangs 31 = .ok (.aload_n 0, 1) := dk_42 (dk_at dksX7_hangs_1 7 rfl rfl)
theorem dX7_hangs_32 : decode cX7_hangs 32 = .ok (.getfield 7, 3) := dk_180 0 7 (dk_at dksX7_hangs_1 8 rfl rfl)
theorem dX7_hangs_35 : decode cX7_hangs 35 = .ok (.iconst 5, 1) := dk_8 (dk_at dksX7_hangs_1 11 rfl rfl)
theorem dX7_hangs_36 : decode cX7_hangs 36 = .ok (.iaload, 1) := dk_46 (dk_at dksX7_hangs_1 12 rfl rfl)
theorem dX7_hangs_37 : decode cX7_hangs 37 = .ok (.if_icmp .ge 36, 3) := dk_162 0 36 (dk_at dksX7_hangs_1 13 rfl rfl)
theorem dX7_hangs_40 : decode cX7_hangs 40 = .ok (.iload_n 2, 1) := dk_28 (dk_at dksX7_hangs_1 16 rfl rfl)
theorem dX7_hangs_41 : decode cX7_hangs 41 = .ok (.iload_n 3, 1) := dk_29 (dk_at dksX7_hangs_1 17 rfl rfl)
theorem dX7_hangs_42 : decode cX7_hangs 42 = .ok (.iload_n 1, 1) := dk_27 (dk_at dksX7_hangs_1 18 rfl rfl)
theorem dX7_hangs_43 : decode cX7_hangs 43 = .ok (.if_icmp .eq 21, 3) := dk_159 0 21 (dk_at dksX7_hangs_1 19 rfl rfl)
theorem dX7_hangs_46 : decode cX7_hangs 46 = .ok (.aload_n 0, 1) := dk_42 (dk_at dksX7_hangs_1 22 rfl rfl)
theorem dX7_hangs_47 : decode cX7_hangs 47 = .ok (.iload_n 3, 1) := dk_29 (dk_at dksX7_hangs_1 23 rfl rfl)
theorem dX7_hangs_48 : decode cX7_hangs 48 = .ok (.invokevirtual 353, 3) := dk_182 1 97 (dk_at dksX7_hangs_2 0 rfl rfl)
theorem dX7_hangs_51 : decode cX7_hangs 51 = .ok (.iload_n 1, 1) := dk_27 (dk_at dksX7_hangs_2 3 rfl rfl)
theorem dX7_hangs_52 : decode cX7_hangs 52 = .ok (.invokestatic 56, 3) := dk_184 0 56 (dk_at dksX7_hangs_2 4 rfl rfl)
theorem dX7_hangs_55 : decode cX7_hangs 55 = .ok (.ifCond .eq 9, 3) := dk_153 0 9 (dk_at dksX7_hangs_2 7 rfl rfl)
theorem dX7_hangs_58 : decode cX7_hangs 58 = .ok (.iconst 1, 1) := dk_4 (dk_at dksX7_hangs_2 10 rfl rfl)
theorem dX7_hangs_59 : decode cX7_hangs 59 = .ok (.iload_n 3, 1) := dk_29 (dk_at dksX7_hangs_2 11 rfl rfl)
theorem dX7_hangs_60 : decode cX7_hangs 60 = .ok (.ishl, 1) := dk_120 (dk_at dksX7_hangs_2 12 rfl rfl)
theorem dX7_hangs_61 : decode cX7_hangs 61 = .ok (.goto 4, 3) := dk_167 0 4 (dk_at dksX7_hangs_2 13 rfl rfl)
theorem dX7_hangs_64 : decode cX7_hangs 64 = .ok (.iconst 0, 1) := dk_3 (dk_at dksX7_hangs_2 16 rfl rfl)
theorem dX7_hangs_65 : decode cX7_hangs 65 = .ok (.ior, 1) := dk_128 (dk_at dksX7_hangs_2 17 rfl rfl)
theorem dX7_hangs_66 : decode cX7_hangs 66 = .ok (.istore_n 2, 1) := dk_61 (dk_at dksX7_hangs_2 18 rfl rfl)
theorem dX7_hangs_67 : decode cX7_hangs 67 = .ok (.iinc 3 1, 3) := dk_132 3 1 (dk_at dksX7_hangs_2 19 rfl rfl)
theorem dX7_hangs_70 : decode cX7_hangs 70 = .ok (.goto (-40), 3) := dk_167 255 216 (dk_at dksX7_hangs_3 0 rfl rfl)
theorem dX7_hangs_73 : decode cX7_hangs 73 = .ok (.iload_n 2, 1) := dk_28 (dk_at dksX7_hangs_3 3 rfl rfl)
theorem dX7_hangs_74 : decode cX7_hangs 74 = .ok (.ireturn, 1) := dk_172 (dk_at dksX7_hangs_3 4 rfl rfl)
abbrev cX7_late : ByteArray := prog_20_method_90_code
def yX7_late : MethodName := ⟨RX7, "late", "()I"⟩
def dkwX7_late_2 : List UInt8 := [167, 255, 222, 27, 172]
abbrev dktX7_late_2 : List UInt8 := dkwX7_late_2 ++ []
def dkwX7_late_1 : List UInt8 := [182, 1, 91, 54, 4, 21, 4, 28, 163, 0, 6, 167, 0, 8, 21, 4, 61, 29, 60, 132, 3, 1]
abbrev dktX7_late_1 : List UInt8 := dkwX7_late_1 ++ dktX7_late_2
def dkwX7_late_0 : List UInt8 := [42, 3, 181, 0, 45, 2, 60, 2, 61, 3, 62, 29, 42, 180, 0, 7, 8, 46, 162, 0, 30, 42, 29]
abbrev dktX7_late_0 : List UInt8 := dkwX7_late_0 ++ dktX7_late_1
theorem dksX7_late_0 : cX7_late.data.toList.drop 0 = dktX7_late_0 := by decide +kernel
theorem dksX7_late_1 : cX7_late.data.toList.drop 23 = dktX7_late_1 := dk_seg dksX7_late_0 23 rfl rfl
theorem dksX7_late_2 : cX7_late.data.toList.drop 45 = dktX7_late_2 := dk_seg dksX7_late_1 22 rfl rfl
theorem dX7_late_0 : decode cX7_late 0 = .ok (.aload_n 0, 1) := dk_42 (dk_at dksX7_late_0 0 rfl rfl)
theorem dX7_late_1 : decode cX7_late 1 = .ok (.iconst 0, 1) := dk_3 (dk_at dksX7_late_0 1 rfl rfl)
theorem dX7_late_2 : decode cX7_late 2 = .ok (.putfield 45, 3) := dk_181 0 45 (dk_at dksX7_late_0 2 rfl rfl)
theorem dX7_late_5 : decode cX7_late 5 = .ok (.iconst (-1), 1) := dk_2 (dk_at dksX7_late_0 5 rfl rfl)
theorem dX7_late_6 : decode cX7_late 6 = .ok (.istore_n 1, 1) := dk_60 (dk_at dksX7_late_0 6 rfl rfl)
theorem dX7_late_7 : decode cX7_late 7 = .ok (.iconst (-1), 1) := dk_2 (dk_at dksX7_late_0 7 rfl rfl)
theorem dX7_late_8 : decode cX7_late 8 = .ok (.istore_n 2, 1) := dk_61 (dk_at dksX7_late_0 8 rfl rfl)
theorem dX7_late_9 : decode cX7_late 9 = .ok (.iconst 0, 1) := dk_3 (dk_at dksX7_late_0 9 rfl rfl)
theorem dX7_late_10 : decode cX7_late 10 = .ok (.istore_n 3, 1) := dk_62 (dk_at dksX7_late_0 10 rfl rfl)
theorem dX7_late_11 : decode cX7_late 11 = .ok (.iload_n 3, 1) := dk_29 (dk_at dksX7_late_0 11 rfl rfl)
theorem dX7_late_12 : decode cX7_late 12 = .ok (.aload_n 0, 1) := dk_42 (dk_at dksX7_late_0 12 rfl rfl)
theorem dX7_late_13 : decode cX7_late 13 = .ok (.getfield 7, 3) := dk_180 0 7 (dk_at dksX7_late_0 13 rfl rfl)
theorem dX7_late_16 : decode cX7_late 16 = .ok (.iconst 5, 1) := dk_8 (dk_at dksX7_late_0 16 rfl rfl)
theorem dX7_late_17 : decode cX7_late 17 = .ok (.iaload, 1) := dk_46 (dk_at dksX7_late_0 17 rfl rfl)
theorem dX7_late_18 : decode cX7_late 18 = .ok (.if_icmp .ge 30, 3) := dk_162 0 30 (dk_at dksX7_late_0 18 rfl rfl)
theorem dX7_late_21 : decode cX7_late 21 = .ok (.aload_n 0, 1) := dk_42 (dk_at dksX7_late_0 21 rfl rfl)
theorem dX7_late_22 : decode cX7_late 22 = .ok (.iload_n 3, 1) := dk_29 (dk_at dksX7_late_0 22 rfl rfl)
theorem dX7_late_23 : decode cX7_late 23 = .ok (.invokevirtual 347, 3) := dk_182 1 91 (dk_at dksX7_late_1 0 rfl rfl)
theorem dX7_late_26 : decode cX7_late 26 = .ok (.istore 4, 2) := dk_54 4 (dk_at dksX7_late_1 3 rfl rfl)
theorem dX7_late_28 : decode cX7_late 28 = .ok (.iload 4, 2) := dk_21 4 (dk_at dksX7_late_1 5 rfl rfl)
theorem dX7_late_30 : decode cX7_late 30 = .ok (.iload_n 2, 1) := dk_28 (dk_at dksX7_late_1 7 rfl rfl)
theorem dX7_late_31 : decode cX7_late 31 = .ok (.if_icmp .gt 6, 3) := dk_163 0 6 (dk_at dksX7_late_1 8 rfl rfl)
theorem dX7_late_34 : decode cX7_late 34 = .ok (.goto 8, 3) := dk_167 0 8 (dk_at dksX7_late_1 11 rfl rfl)
theorem dX7_late_37 : decode cX7_late 37 = .ok (.iload 4, 2) := dk_21 4 (dk_at dksX7_late_1 14 rfl rfl)
theorem dX7_late_39 : decode cX7_late 39 = .ok (.istore_n 2, 1) := dk_61 (dk_at dksX7_late_1 16 rfl rfl)
theorem dX7_late_40 : decode cX7_late 40 = .ok (.iload_n 3, 1) := dk_29 (dk_at dksX7_late_1 17 rfl rfl)
theorem dX7_late_41 : decode cX7_late 41 = .ok (.istore_n 1, 1) := dk_60 (dk_at dksX7_late_1 18 rfl rfl)
theorem dX7_late_42 : decode cX7_late 42 = .ok (.iinc 3 1, 3) := dk_132 3 1 (dk_at dksX7_late_1 19 rfl rfl)
theorem dX7_late_45 : decode cX7_late 45 = .ok (.goto (-34), 3) := dk_167 255 222 (dk_at dksX7_late_2 0 rfl rfl)
theorem dX7_late_48 : decode cX7_late 48 = .ok (.iload_n 1, 1) := dk_27 (dk_at dksX7_late_2 3 rfl rfl)
theorem dX7_late_49 : decode cX7_late 49 = .ok (.ireturn, 1) := dk_172 (dk_at dksX7_late_2 4 rfl rfl)
abbrev cX7_net : ByteArray := prog_20_method_91_code
def yX7_net : MethodName := ⟨RX7, "net", "(II)I"⟩
def dkwX7_net_1 : List UInt8 := [3, 167, 0, 9, 42, 27, 28, 182, 1, 47, 172]
abbrev dktX7_net_1 : List UInt8 := dkwX7_net_1 ++ []
def dkwX7_net_0 : List UInt8 := [42, 42, 27, 182, 1, 50, 154, 0, 7, 4, 167, 0, 4, 3, 181, 0, 45, 42, 180, 0, 45, 158, 0, 7]
abbrev dktX7_net_0 : List UInt8 := dkwX7_net_0 ++ dktX7_net_1
theorem dksX7_net_0 : cX7_net.data.toList.drop 0 = dktX7_net_0 := by decide +kernel
theorem dksX7_net_1 : cX7_net.data.toList.drop 24 = dktX7_net_1 := dk_seg dksX7_net_0 24 rfl rfl
theorem dX7_net_0 : decode cX7_net 0 = .ok (.aload_n 0, 1) := dk_42 (dk_at dksX7_net_0 0 rfl rfl)
theorem dX7_net_1 : decode cX7_net 1 = .ok (.aload_n 0, 1) := dk_42 (dk_at dksX7_net_0 1 rfl rfl)
theorem dX7_net_2 : decode cX7_net 2 = .ok (.iload_n 1, 1) := dk_27 (dk_at dksX7_net_0 2 rfl rfl)
theorem dX7_net_3 : decode cX7_net 3 = .ok (.invokevirtual 306, 3) := dk_182 1 50 (dk_at dksX7_net_0 3 rfl rfl)
theorem dX7_net_6 : decode cX7_net 6 = .ok (.ifCond .ne 7, 3) := dk_154 0 7 (dk_at dksX7_net_0 6 rfl rfl)
theorem dX7_net_9 : decode cX7_net 9 = .ok (.iconst 1, 1) := dk_4 (dk_at dksX7_net_0 9 rfl rfl)
theorem dX7_net_10 : decode cX7_net 10 = .ok (.goto 4, 3) := dk_167 0 4 (dk_at dksX7_net_0 10 rfl rfl)
theorem dX7_net_13 : decode cX7_net 13 = .ok (.iconst 0, 1) := dk_3 (dk_at dksX7_net_0 13 rfl rfl)
theorem dX7_net_14 : decode cX7_net 14 = .ok (.putfield 45, 3) := dk_181 0 45 (dk_at dksX7_net_0 14 rfl rfl)
theorem dX7_net_17 : decode cX7_net 17 = .ok (.aload_n 0, 1) := dk_42 (dk_at dksX7_net_0 17 rfl rfl)
theorem dX7_net_18 : decode cX7_net 18 = .ok (.getfield 45, 3) := dk_180 0 45 (dk_at dksX7_net_0 18 rfl rfl)
theorem dX7_net_21 : decode cX7_net 21 = .ok (.ifCond .le 7, 3) := dk_158 0 7 (dk_at dksX7_net_0 21 rfl rfl)
theorem dX7_net_24 : decode cX7_net 24 = .ok (.iconst 0, 1) := dk_3 (dk_at dksX7_net_1 0 rfl rfl)
theorem dX7_net_25 : decode cX7_net 25 = .ok (.goto 9, 3) := dk_167 0 9 (dk_at dksX7_net_1 1 rfl rfl)
theorem dX7_net_28 : decode cX7_net 28 = .ok (.aload_n 0, 1) := dk_42 (dk_at dksX7_net_1 4 rfl rfl)
theorem dX7_net_29 : decode cX7_net 29 = .ok (.iload_n 1, 1) := dk_27 (dk_at dksX7_net_1 5 rfl rfl)
theorem dX7_net_30 : decode cX7_net 30 = .ok (.iload_n 2, 1) := dk_28 (dk_at dksX7_net_1 6 rfl rfl)
theorem dX7_net_31 : decode cX7_net 31 = .ok (.invokevirtual 303, 3) := dk_182 1 47 (dk_at dksX7_net_1 7 rfl rfl)
theorem dX7_net_34 : decode cX7_net 34 = .ok (.ireturn, 1) := dk_172 (dk_at dksX7_net_1 10 rfl rfl)
abbrev cX7_worth : ByteArray := prog_20_method_93_code
def yX7_worth : MethodName := ⟨RX7, "worth", "(IIZ)I"⟩
def dkwX7_worth_5 : List UInt8 := [54, 5, 21, 6, 54, 4, 132, 6, 1, 167, 255, 185, 29, 153, 0, 8, 21, 5, 167, 0, 5, 21, 4, 172]
abbrev dktX7_worth_5 : List UInt8 := dkwX7_worth_5 ++ []
def dkwX7_worth_4 : List UInt8 := [182, 1, 47, 42, 21, 6, 182, 1, 100, 100, 54, 7, 21, 7, 21, 5, 163, 0, 6, 167, 0, 11, 21, 7]
abbrev dktX7_worth_4 : List UInt8 := dkwX7_worth_4 ++ dktX7_worth_5
def dkwX7_worth_3 : List UInt8 := [130, 126, 154, 0, 50, 42, 21, 6, 182, 1, 100, 28, 164, 0, 6, 167, 0, 37, 42, 27, 21, 6]
abbrev dktX7_worth_3 : List UInt8 := dkwX7_worth_3 ++ dktX7_worth_4
def dkwX7_worth_2 : List UInt8 := [182, 1, 47, 54, 5, 4, 54, 6, 21, 6, 17, 1, 0, 162, 0, 69, 21, 6, 42, 3, 182, 0, 60, 2]
abbrev dktX7_worth_2 : List UInt8 := dkwX7_worth_2 ++ dktX7_worth_3
def dkwX7_worth_1 : List UInt8 := [5, 167, 0, 4, 3, 181, 0, 45, 42, 180, 0, 45, 158, 0, 5, 3, 172, 3, 54, 4, 42, 27, 3]
abbrev dktX7_worth_1 : List UInt8 := dkwX7_worth_1 ++ dktX7_worth_2
def dkwX7_worth_0 : List UInt8 := [42, 42, 27, 182, 1, 50, 154, 0, 7, 4, 167, 0, 19, 28, 3, 17, 3, 231, 184, 0, 48, 154, 0, 7]
abbrev dktX7_worth_0 : List UInt8 := dkwX7_worth_0 ++ dktX7_worth_1
theorem dksX7_worth_0 : cX7_worth.data.toList.drop 0 = dktX7_worth_0 := by decide +kernel
theorem dksX7_worth_1 : cX7_worth.data.toList.drop 24 = dktX7_worth_1 := dk_seg dksX7_worth_0 24 rfl rfl
theorem dksX7_worth_2 : cX7_worth.data.toList.drop 47 = dktX7_worth_2 := dk_seg dksX7_worth_1 23 rfl rfl
theorem dksX7_worth_3 : cX7_worth.data.toList.drop 71 = dktX7_worth_3 := dk_seg dksX7_worth_2 24 rfl rfl
theorem dksX7_worth_4 : cX7_worth.data.toList.drop 93 = dktX7_worth_4 := dk_seg dksX7_worth_3 22 rfl rfl
theorem dksX7_worth_5 : cX7_worth.data.toList.drop 117 = dktX7_worth_5 := dk_seg dksX7_worth_4 24 rfl rfl
theorem dX7_worth_0 : decode cX7_worth 0 = .ok (.aload_n 0, 1) := dk_42 (dk_at dksX7_worth_0 0 rfl rfl)
theorem dX7_worth_1 : decode cX7_worth 1 = .ok (.aload_n 0, 1) := dk_42 (dk_at dksX7_worth_0 1 rfl rfl)
theorem dX7_worth_2 : decode cX7_worth 2 = .ok (.iload_n 1, 1) := dk_27 (dk_at dksX7_worth_0 2 rfl rfl)
theorem dX7_worth_3 : decode cX7_worth 3 = .ok (.invokevirtual 306, 3) := dk_182 1 50 (dk_at dksX7_worth_0 3 rfl rfl)
theorem dX7_worth_6 : decode cX7_worth 6 = .ok (.ifCond .ne 7, 3) := dk_154 0 7 (dk_at dksX7_worth_0 6 rfl rfl)
theorem dX7_worth_9 : decode cX7_worth 9 = .ok (.iconst 1, 1) := dk_4 (dk_at dksX7_worth_0 9 rfl rfl)
theorem dX7_worth_10 : decode cX7_worth 10 = .ok (.goto 19, 3) := dk_167 0 19 (dk_at dksX7_worth_0 10 rfl rfl)
theorem dX7_worth_13 : decode cX7_worth 13 = .ok (.iload_n 2, 1) := dk_28 (dk_at dksX7_worth_0 13 rfl rfl)
theorem dX7_worth_14 : decode cX7_worth 14 = .ok (.iconst 0, 1) := dk_3 (dk_at dksX7_worth_0 14 rfl rfl)
theorem dX7_worth_15 : decode cX7_worth 15 = .ok (.sipush 999, 3) := dk_17 3 231 (dk_at dksX7_worth_0 15 rfl rfl)
theorem dX7_worth_18 : decode cX7_worth 18 = .ok (.invokestatic 48, 3) := dk_184 0 48 (dk_at dksX7_worth_0 18 rfl rfl)
theorem dX7_worth_21 : decode cX7_worth 21 = .ok (.ifCond .ne 7, 3) := dk_154 0 7 (dk_at dksX7_worth_0 21 rfl rfl)
theorem dX7_worth_24 : decode cX7_worth 24 = .ok (.iconst 2, 1) := dk_5 (dk_at dksX7_worth_1 0 rfl rfl)
theorem dX7_worth_25 : decode cX7_worth 25 = .ok (.goto 4, 3) := dk_167 0 4 (dk_at dksX7_worth_1 1 rfl rfl)
theorem dX7_worth_28 : decode cX7_worth 28 = .ok (.iconst 0, 1) := dk_3 (dk_at dksX7_worth_1 4 rfl rfl)
theorem dX7_worth_29 : decode cX7_worth 29 = .ok (.putfield 45, 3) := dk_181 0 45 (dk_at dksX7_worth_1 5 rfl rfl)
theorem dX7_worth_32 : decode cX7_worth 32 = .ok (.aload_n 0, 1) := dk_42 (dk_at dksX7_worth_1 8 rfl rfl)
theorem dX7_worth_33 : decode cX7_worth 33 = .ok (.getfield 45, 3) := dk_180 0 45 (dk_at dksX7_worth_1 9 rfl rfl)
theorem dX7_worth_36 : decode cX7_worth 36 = .ok (.ifCond .le 5, 3) := dk_158 0 5 (dk_at dksX7_worth_1 12 rfl rfl)
theorem dX7_worth_39 : decode cX7_worth 39 = .ok (.iconst 0, 1) := dk_3 (dk_at dksX7_worth_1 15 rfl rfl)
theorem dX7_worth_40 : decode cX7_worth 40 = .ok (.ireturn, 1) := dk_172 (dk_at dksX7_worth_1 16 rfl rfl)
theorem dX7_worth_41 : decode cX7_worth 41 = .ok (.iconst 0, 1) := dk_3 (dk_at dksX7_worth_1 17 rfl rfl)
theorem dX7_worth_42 : decode cX7_worth 42 = .ok (.istore 4, 2) := dk_54 4 (dk_at dksX7_worth_1 18 rfl rfl)
theorem dX7_worth_44 : decode cX7_worth 44 = .ok (.aload_n 0, 1) := dk_42 (dk_at dksX7_worth_1 20 rfl rfl)
theorem dX7_worth_45 : decode cX7_worth 45 = .ok (.iload_n 1, 1) := dk_27 (dk_at dksX7_worth_1 21 rfl rfl)
theorem dX7_worth_46 : decode cX7_worth 46 = .ok (.iconst 0, 1) := dk_3 (dk_at dksX7_worth_1 22 rfl rfl)
theorem dX7_worth_47 : decode cX7_worth 47 = .ok (.invokevirtual 303, 3) := dk_182 1 47 (dk_at dksX7_worth_2 0 rfl rfl)
theorem dX7_worth_50 : decode cX7_worth 50 = .ok (.istore 5, 2) := dk_54 5 (dk_at dksX7_worth_2 3 rfl rfl)
theorem dX7_worth_52 : decode cX7_worth 52 = .ok (.iconst 1, 1) := dk_4 (dk_at dksX7_worth_2 5 rfl rfl)
theorem dX7_worth_53 : decode cX7_worth 53 = .ok (.istore 6, 2) := dk_54 6 (dk_at dksX7_worth_2 6 rfl rfl)
theorem dX7_worth_55 : decode cX7_worth 55 = .ok (.iload 6, 2) := dk_21 6 (dk_at dksX7_worth_2 8 rfl rfl)
theorem dX7_worth_57 : decode cX7_worth 57 = .ok (.sipush 256, 3) := dk_17 1 0 (dk_at dksX7_worth_2 10 rfl rfl)
theorem dX7_worth_60 : decode cX7_worth 60 = .ok (.if_icmp .ge 69, 3) := dk_162 0 69 (dk_at dksX7_worth_2 13 rfl rfl)
theorem dX7_worth_63 : decode cX7_worth 63 = .ok (.iload 6, 2) := dk_21 6 (dk_at dksX7_worth_2 16 rfl rfl)
theorem dX7_worth_65 : decode cX7_worth 65 = .ok (.aload_n 0, 1) := dk_42 (dk_at dksX7_worth_2 18 rfl rfl)
theorem dX7_worth_66 : decode cX7_worth 66 = .ok (.iconst 0, 1) := dk_3 (dk_at dksX7_worth_2 19 rfl rfl)
theorem dX7_worth_67 : decode cX7_worth 67 = .ok (.invokevirtual 60, 3) := dk_182 0 60 (dk_at dksX7_worth_2 20 rfl rfl)
theorem dX7_worth_70 : decode cX7_worth 70 = .ok (.iconst (-1), 1) := dk_2 (dk_at dksX7_worth_2 23 rfl rfl)
theorem dX7_worth_71 : decode cX7_worth 71 = .ok (.ixor, 1) := dk_130 (dk_at dksX7_worth_3 0 rfl rfl)
theorem dX7_worth_72 : decode cX7_worth 72 = .ok (.iand, 1) := dk_126 (dk_at dksX7_worth_3 1 rfl rfl)
theorem dX7_worth_73 : decode cX7_worth 73 = .ok (.ifCond .ne 50, 3) := dk_154 0 50 (dk_at dksX7_worth_3 2 rfl rfl)
theorem dX7_worth_76 : decode cX7_worth 76 = .ok (.aload_n 0, 1) := dk_42 (dk_at dksX7_worth_3 5 rfl rfl)
theorem dX7_worth_77 : decode cX7_worth 77 = .ok (.iload 6, 2) := dk_21 6 (dk_at dksX7_worth_3 6 rfl rfl)
theorem dX7_worth_79 : decode cX7_worth 79 = .ok (.invokevirtual 356, 3) := dk_182 1 100 (dk_at dksX7_worth_3 8 rfl rfl)
theorem dX7_worth_82 : decode cX7_worth 82 = .ok (.iload_n 2, 1) := dk_28 (dk_at dksX7_worth_3 11 rfl rfl)
theorem dX7_worth_83 : decode cX7_worth 83 = .ok (.if_icmp .le 6, 3) := dk_164 0 6 (dk_at dksX7_worth_3 12 rfl rfl)
theorem dX7_worth_86 : decode cX7_worth 86 = .ok (.goto 37, 3) := dk_167 0 37 (dk_at dksX7_worth_3 15 rfl rfl)
theorem dX7_worth_89 : decode cX7_worth 89 = .ok (.aload_n 0, 1) := dk_42 (dk_at dksX7_worth_3 18 rfl rfl)
theorem dX7_worth_90 : decode cX7_worth 90 = .ok (.iload_n 1, 1) := dk_27 (dk_at dksX7_worth_3 19 rfl rfl)
theorem dX7_worth_91 : decode cX7_worth 91 = .ok (.iload 6, 2) := dk_21 6 (dk_at dksX7_worth_3 20 rfl rfl)
theorem dX7_worth_93 : decode cX7_worth 93 = .ok (.invokevirtual 303, 3) := dk_182 1 47 (dk_at dksX7_worth_4 0 rfl rfl)
theorem dX7_worth_96 : decode cX7_worth 96 = .ok (.aload_n 0, 1) := dk_42 (dk_at dksX7_worth_4 3 rfl rfl)
theorem dX7_worth_97 : decode cX7_worth 97 = .ok (.iload 6, 2) := dk_21 6 (dk_at dksX7_worth_4 4 rfl rfl)
theorem dX7_worth_99 : decode cX7_worth 99 = .ok (.invokevirtual 356, 3) := dk_182 1 100 (dk_at dksX7_worth_4 6 rfl rfl)
theorem dX7_worth_102 : decode cX7_worth 102 = .ok (.isub, 1) := dk_100 (dk_at dksX7_worth_4 9 rfl rfl)
theorem dX7_worth_103 : decode cX7_worth 103 = .ok (.istore 7, 2) := dk_54 7 (dk_at dksX7_worth_4 10 rfl rfl)
theorem dX7_worth_105 : decode cX7_worth 105 = .ok (.iload 7, 2) := dk_21 7 (dk_at dksX7_worth_4 12 rfl rfl)
theorem dX7_worth_107 : decode cX7_worth 107 = .ok (.iload 5, 2) := dk_21 5 (dk_at dksX7_worth_4 14 rfl rfl)
theorem dX7_worth_109 : decode cX7_worth 109 = .ok (.if_icmp .gt 6, 3) := dk_163 0 6 (dk_at dksX7_worth_4 16 rfl rfl)
theorem dX7_worth_112 : decode cX7_worth 112 = .ok (.goto 11, 3) := dk_167 0 11 (dk_at dksX7_worth_4 19 rfl rfl)
theorem dX7_worth_115 : decode cX7_worth 115 = .ok (.iload 7, 2) := dk_21 7 (dk_at dksX7_worth_4 22 rfl rfl)
theorem dX7_worth_117 : decode cX7_worth 117 = .ok (.istore 5, 2) := dk_54 5 (dk_at dksX7_worth_5 0 rfl rfl)
theorem dX7_worth_119 : decode cX7_worth 119 = .ok (.iload 6, 2) := dk_21 6 (dk_at dksX7_worth_5 2 rfl rfl)
theorem dX7_worth_121 : decode cX7_worth 121 = .ok (.istore 4, 2) := dk_54 4 (dk_at dksX7_worth_5 4 rfl rfl)
theorem dX7_worth_123 : decode cX7_worth 123 = .ok (.iinc 6 1, 3) := dk_132 6 1 (dk_at dksX7_worth_5 6 rfl rfl)
theorem dX7_worth_126 : decode cX7_worth 126 = .ok (.goto (-71), 3) := dk_167 255 185 (dk_at dksX7_worth_5 9 rfl rfl)
theorem dX7_worth_129 : decode cX7_worth 129 = .ok (.iload_n 3, 1) := dk_29 (dk_at dksX7_worth_5 12 rfl rfl)
theorem dX7_worth_130 : decode cX7_worth 130 = .ok (.ifCond .eq 8, 3) := dk_153 0 8 (dk_at dksX7_worth_5 13 rfl rfl)
theorem dX7_worth_133 : decode cX7_worth 133 = .ok (.iload 5, 2) := dk_21 5 (dk_at dksX7_worth_5 16 rfl rfl)
theorem dX7_worth_135 : decode cX7_worth 135 = .ok (.goto 5, 3) := dk_167 0 5 (dk_at dksX7_worth_5 18 rfl rfl)
theorem dX7_worth_138 : decode cX7_worth 138 = .ok (.iload 4, 2) := dk_21 4 (dk_at dksX7_worth_5 21 rfl rfl)
theorem dX7_worth_140 : decode cX7_worth 140 = .ok (.ireturn, 1) := dk_172 (dk_at dksX7_worth_5 23 rfl rfl)
abbrev cX7_costsOfAll : ByteArray := prog_20_method_92_code
def yX7_costsOfAll : MethodName := ⟨RX7, "costsOfAll", "(I)I"⟩
def dkwX7_costsOfAll_1 : List UInt8 := [29, 182, 1, 81, 167, 0, 4, 3, 96, 61, 132, 3, 1, 167, 255, 223, 28, 172]
abbrev dktX7_costsOfAll_1 : List UInt8 := dkwX7_costsOfAll_1 ++ []
def dkwX7_costsOfAll_0 : List UInt8 := [3, 61, 3, 62, 29, 42, 180, 0, 7, 8, 46, 162, 0, 29, 28, 27, 29, 184, 0, 56, 153, 0, 11, 42]
abbrev dktX7_costsOfAll_0 : List UInt8 := dkwX7_costsOfAll_0 ++ dktX7_costsOfAll_1
theorem dksX7_costsOfAll_0 : cX7_costsOfAll.data.toList.drop 0 = dktX7_costsOfAll_0 := by decide +kernel
theorem dksX7_costsOfAll_1 : cX7_costsOfAll.data.toList.drop 24 = dktX7_costsOfAll_1 := dk_seg dksX7_costsOfAll_0 24 rfl rfl
theorem dX7_costsOfAll_0 : decode cX7_costsOfAll 0 = .ok (.iconst 0, 1) := dk_3 (dk_at dksX7_costsOfAll_0 0 rfl rfl)
theorem dX7_costsOfAll_1 : decode cX7_costsOfAll 1 = .ok (.istore_n 2, 1) := dk_61 (dk_at dksX7_costsOfAll_0 1 rfl rfl)
theorem dX7_costsOfAll_2 : decode cX7_costsOfAll 2 = .ok (.iconst 0, 1) := dk_3 (dk_at dksX7_costsOfAll_0 2 rfl rfl)
theorem dX7_costsOfAll_3 : decode cX7_costsOfAll 3 = .ok (.istore_n 3, 1) := dk_62 (dk_at dksX7_costsOfAll_0 3 rfl rfl)
theorem dX7_costsOfAll_4 : decode cX7_costsOfAll 4 = .ok (.iload_n 3, 1) := dk_29 (dk_at dksX7_costsOfAll_0 4 rfl rfl)
theorem dX7_costsOfAll_5 : decode cX7_costsOfAll 5 = .ok (.aload_n 0, 1) := dk_42 (dk_at dksX7_costsOfAll_0 5 rfl rfl)
theorem dX7_costsOfAll_6 : decode cX7_costsOfAll 6 = .ok (.getfield 7, 3) := dk_180 0 7 (dk_at dksX7_costsOfAll_0 6 rfl rfl)
theorem dX7_costsOfAll_9 : decode cX7_costsOfAll 9 = .ok (.iconst 5, 1) := dk_8 (dk_at dksX7_costsOfAll_0 9 rfl rfl)
theorem dX7_costsOfAll_10 : decode cX7_costsOfAll 10 = .ok (.iaload, 1) := dk_46 (dk_at dksX7_costsOfAll_0 10 rfl rfl)
theorem dX7_costsOfAll_11 : decode cX7_costsOfAll 11 = .ok (.if_icmp .ge 29, 3) := dk_162 0 29 (dk_at dksX7_costsOfAll_0 11 rfl rfl)
theorem dX7_costsOfAll_14 : decode cX7_costsOfAll 14 = .ok (.iload_n 2, 1) := dk_28 (dk_at dksX7_costsOfAll_0 14 rfl rfl)
theorem dX7_costsOfAll_15 : decode cX7_costsOfAll 15 = .ok (.iload_n 1, 1) := dk_27 (dk_at dksX7_costsOfAll_0 15 rfl rfl)
theorem dX7_costsOfAll_16 : decode cX7_costsOfAll 16 = .ok (.iload_n 3, 1) := dk_29 (dk_at dksX7_costsOfAll_0 16 rfl rfl)
theorem dX7_costsOfAll_17 : decode cX7_costsOfAll 17 = .ok (.invokestatic 56, 3) := dk_184 0 56 (dk_at dksX7_costsOfAll_0 17 rfl rfl)
theorem dX7_costsOfAll_20 : decode cX7_costsOfAll 20 = .ok (.ifCond .eq 11, 3) := dk_153 0 11 (dk_at dksX7_costsOfAll_0 20 rfl rfl)
theorem dX7_costsOfAll_23 : decode cX7_costsOfAll 23 = .ok (.aload_n 0, 1) := dk_42 (dk_at dksX7_costsOfAll_0 23 rfl rfl)
theorem dX7_costsOfAll_24 : decode cX7_costsOfAll 24 = .ok (.iload_n 3, 1) := dk_29 (dk_at dksX7_costsOfAll_1 0 rfl rfl)
theorem dX7_costsOfAll_25 : decode cX7_costsOfAll 25 = .ok (.invokevirtual 337, 3) := dk_182 1 81 (dk_at dksX7_costsOfAll_1 1 rfl rfl)
theorem dX7_costsOfAll_28 : decode cX7_costsOfAll 28 = .ok (.goto 4, 3) := dk_167 0 4 (dk_at dksX7_costsOfAll_1 4 rfl rfl)
theorem dX7_costsOfAll_31 : decode cX7_costsOfAll 31 = .ok (.iconst 0, 1) := dk_3 (dk_at dksX7_costsOfAll_1 7 rfl rfl)
theorem dX7_costsOfAll_32 : decode cX7_costsOfAll 32 = .ok (.iadd, 1) := dk_96 (dk_at dksX7_costsOfAll_1 8 rfl rfl)
theorem dX7_costsOfAll_33 : decode cX7_costsOfAll 33 = .ok (.istore_n 2, 1) := dk_61 (dk_at dksX7_costsOfAll_1 9 rfl rfl)
theorem dX7_costsOfAll_34 : decode cX7_costsOfAll 34 = .ok (.iinc 3 1, 3) := dk_132 3 1 (dk_at dksX7_costsOfAll_1 10 rfl rfl)
theorem dX7_costsOfAll_37 : decode cX7_costsOfAll 37 = .ok (.goto (-33), 3) := dk_167 255 223 (dk_at dksX7_costsOfAll_1 13 rfl rfl)
theorem dX7_costsOfAll_40 : decode cX7_costsOfAll 40 = .ok (.iload_n 2, 1) := dk_28 (dk_at dksX7_costsOfAll_1 16 rfl rfl)
theorem dX7_costsOfAll_41 : decode cX7_costsOfAll 41 = .ok (.ireturn, 1) := dk_172 (dk_at dksX7_costsOfAll_1 17 rfl rfl)
abbrev cX7_jars : ByteArray := prog_20_method_97_code
def yX7_jars : MethodName := ⟨RX7, "jars", "(Z)I"⟩
def dkwX7_jars_3 : List UInt8 := [153, 0, 13, 4, 21, 4, 16, 21, 108, 120, 167, 0, 4, 3, 128, 62, 132, 4, 1, 167, 255, 215, 29, 172]
abbrev dktX7_jars_3 : List UInt8 := dkwX7_jars_3 ++ []
def dkwX7_jars_2 : List UInt8 := [54, 4, 21, 4, 16, 21, 42, 180, 0, 7, 7, 46, 104, 162, 0, 33, 29, 42, 180, 0, 32, 21, 4, 51]
abbrev dktX7_jars_2 : List UInt8 := dkwX7_jars_2 ++ dktX7_jars_3
def dkwX7_jars_1 : List UInt8 := [157, 0, 7, 27, 154, 0, 16, 42, 180, 0, 45, 158, 0, 7, 3, 167, 0, 4, 28, 172, 3, 62, 3]
abbrev dktX7_jars_1 : List UInt8 := dkwX7_jars_1 ++ dktX7_jars_2
def dkwX7_jars_0 : List UInt8 := [42, 182, 1, 109, 61, 42, 28, 2, 160, 0, 7, 4, 167, 0, 4, 3, 181, 0, 45, 42, 180, 0, 45]
abbrev dktX7_jars_0 : List UInt8 := dkwX7_jars_0 ++ dktX7_jars_1
theorem dksX7_jars_0 : cX7_jars.data.toList.drop 0 = dktX7_jars_0 := by decide +kernel
theorem dksX7_jars_1 : cX7_jars.data.toList.drop 23 = dktX7_jars_1 := dk_seg dksX7_jars_0 23 rfl rfl
theorem dksX7_jars_2 : cX7_jars.data.toList.drop 46 = dktX7_jars_2 := dk_seg dksX7_jars_1 23 rfl rfl
theorem dksX7_jars_3 : cX7_jars.data.toList.drop 70 = dktX7_jars_3 := dk_seg dksX7_jars_2 24 rfl rfl
theorem dX7_jars_0 : decode cX7_jars 0 = .ok (.aload_n 0, 1) := dk_42 (dk_at dksX7_jars_0 0 rfl rfl)
theorem dX7_jars_1 : decode cX7_jars 1 = .ok (.invokevirtual 365, 3) := dk_182 1 109 (dk_at dksX7_jars_0 1 rfl rfl)
theorem dX7_jars_4 : decode cX7_jars 4 = .ok (.istore_n 2, 1) := dk_61 (dk_at dksX7_jars_0 4 rfl rfl)
theorem dX7_jars_5 : decode cX7_jars 5 = .ok (.aload_n 0, 1) := dk_42 (dk_at dksX7_jars_0 5 rfl rfl)
theorem dX7_jars_6 : decode cX7_jars 6 = .ok (.iload_n 2, 1) := dk_28 (dk_at dksX7_jars_0 6 rfl rfl)
theorem dX7_jars_7 : decode cX7_jars 7 = .ok (.iconst (-1), 1) := dk_2 (dk_at dksX7_jars_0 7 rfl rfl)
theorem dX7_jars_8 : decode cX7_jars 8 = .ok (.if_icmp .ne 7, 3) := dk_160 0 7 (dk_at dksX7_jars_0 8 rfl rfl)
theorem dX7_jars_11 : decode cX7_jars 11 = .ok (.iconst 1, 1) := dk_4 (dk_at dksX7_jars_0 11 rfl rfl)
theorem dX7_jars_12 : decode cX7_jars 12 = .ok (.goto 4, 3) := dk_167 0 4 (dk_at dksX7_jars_0 12 rfl rfl)
theorem dX7_jars_15 : decode cX7_jars 15 = .ok (.iconst 0, 1) := dk_3 (dk_at dksX7_jars_0 15 rfl rfl)
theorem dX7_jars_16 : decode cX7_jars 16 = .ok (.putfield 45, 3) := dk_181 0 45 (dk_at dksX7_jars_0 16 rfl rfl)
theorem dX7_jars_19 : decode cX7_jars 19 = .ok (.aload_n 0, 1) := dk_42 (dk_at dksX7_jars_0 19 rfl rfl)
theorem dX7_jars_20 : decode cX7_jars 20 = .ok (.getfield 45, 3) := dk_180 0 45 (dk_at dksX7_jars_0 20 rfl rfl)
theorem dX7_jars_23 : decode cX7_jars 23 = .ok (.ifCond .gt 7, 3) := dk_157 0 7 (dk_at dksX7_jars_1 0 rfl rfl)
theorem dX7_jars_26 : decode cX7_jars 26 = .ok (.iload_n 1, 1) := dk_27 (dk_at dksX7_jars_1 3 rfl rfl)
theorem dX7_jars_27 : decode cX7_jars 27 = .ok (.ifCond .ne 16, 3) := dk_154 0 16 (dk_at dksX7_jars_1 4 rfl rfl)
theorem dX7_jars_30 : decode cX7_jars 30 = .ok (.aload_n 0, 1) := dk_42 (dk_at dksX7_jars_1 7 rfl rfl)
theorem dX7_jars_31 : decode cX7_jars 31 = .ok (.getfield 45, 3) := dk_180 0 45 (dk_at dksX7_jars_1 8 rfl rfl)
theorem dX7_jars_34 : decode cX7_jars 34 = .ok (.ifCond .le 7, 3) := dk_158 0 7 (dk_at dksX7_jars_1 11 rfl rfl)
theorem dX7_jars_37 : decode cX7_jars 37 = .ok (.iconst 0, 1) := dk_3 (dk_at dksX7_jars_1 14 rfl rfl)
theorem dX7_jars_38 : decode cX7_jars 38 = .ok (.goto 4, 3) := dk_167 0 4 (dk_at dksX7_jars_1 15 rfl rfl)
theorem dX7_jars_41 : decode cX7_jars 41 = .ok (.iload_n 2, 1) := dk_28 (dk_at dksX7_jars_1 18 rfl rfl)
theorem dX7_jars_42 : decode cX7_jars 42 = .ok (.ireturn, 1) := dk_172 (dk_at dksX7_jars_1 19 rfl rfl)
theorem dX7_jars_43 : decode cX7_jars 43 = .ok (.iconst 0, 1) := dk_3 (dk_at dksX7_jars_1 20 rfl rfl)
theorem dX7_jars_44 : decode cX7_jars 44 = .ok (.istore_n 3, 1) := dk_62 (dk_at dksX7_jars_1 21 rfl rfl)
theorem dX7_jars_45 : decode cX7_jars 45 = .ok (.iconst 0, 1) := dk_3 (dk_at dksX7_jars_1 22 rfl rfl)
theorem dX7_jars_46 : decode cX7_jars 46 = .ok (.istore 4, 2) := dk_54 4 (dk_at dksX7_jars_2 0 rfl rfl)
theorem dX7_jars_48 : decode cX7_jars 48 = .ok (.iload 4, 2) := dk_21 4 (dk_at dksX7_jars_2 2 rfl rfl)
theorem dX7_jars_50 : decode cX7_jars 50 = .ok (.bipush 21, 2) := dk_16 21 (dk_at dksX7_jars_2 4 rfl rfl)
theorem dX7_jars_52 : decode cX7_jars 52 = .ok (.aload_n 0, 1) := dk_42 (dk_at dksX7_jars_2 6 rfl rfl)
theorem dX7_jars_53 : decode cX7_jars 53 = .ok (.getfield 7, 3) := dk_180 0 7 (dk_at dksX7_jars_2 7 rfl rfl)
theorem dX7_jars_56 : decode cX7_jars 56 = .ok (.iconst 4, 1) := dk_7 (dk_at dksX7_jars_2 10 rfl rfl)
theorem dX7_jars_57 : decode cX7_jars 57 = .ok (.iaload, 1) := dk_46 (dk_at dksX7_jars_2 11 rfl rfl)
theorem dX7_jars_58 : decode cX7_jars 58 = .ok (.imul, 1) := dk_104 (dk_at dksX7_jars_2 12 rfl rfl)
theorem dX7_jars_59 : decode cX7_jars 59 = .ok (.if_icmp .ge 33, 3) := dk_162 0 33 (dk_at dksX7_jars_2 13 rfl rfl)
theorem dX7_jars_62 : decode cX7_jars 62 = .ok (.iload_n 3, 1) := dk_29 (dk_at dksX7_jars_2 16 rfl rfl)
theorem dX7_jars_63 : decode cX7_jars 63 = .ok (.aload_n 0, 1) := dk_42 (dk_at dksX7_jars_2 17 rfl rfl)
theorem dX7_jars_64 : decode cX7_jars 64 = .ok (.getfield 32, 3) := dk_180 0 32 (dk_at dksX7_jars_2 18 rfl rfl)
theorem dX7_jars_67 : decode cX7_jars 67 = .ok (.iload 4, 2) := dk_21 4 (dk_at dksX7_jars_2 21 rfl rfl)
theorem dX7_jars_69 : decode cX7_jars 69 = .ok (.baload, 1) := dk_51 (dk_at dksX7_jars_2 23 rfl rfl)
theorem dX7_jars_70 : decode cX7_jars 70 = .ok (.ifCond .eq 13, 3) := dk_153 0 13 (dk_at dksX7_jars_3 0 rfl rfl)
theorem dX7_jars_73 : decode cX7_jars 73 = .ok (.iconst 1, 1) := dk_4 (dk_at dksX7_jars_3 3 rfl rfl)
theorem dX7_jars_74 : decode cX7_jars 74 = .ok (.iload 4, 2) := dk_21 4 (dk_at dksX7_jars_3 4 rfl rfl)
theorem dX7_jars_76 : decode cX7_jars 76 = .ok (.bipush 21, 2) := dk_16 21 (dk_at dksX7_jars_3 6 rfl rfl)
theorem dX7_jars_78 : decode cX7_jars 78 = .ok (.idiv, 1) := dk_108 (dk_at dksX7_jars_3 8 rfl rfl)
theorem dX7_jars_79 : decode cX7_jars 79 = .ok (.ishl, 1) := dk_120 (dk_at dksX7_jars_3 9 rfl rfl)
theorem dX7_jars_80 : decode cX7_jars 80 = .ok (.goto 4, 3) := dk_167 0 4 (dk_at dksX7_jars_3 10 rfl rfl)
theorem dX7_jars_83 : decode cX7_jars 83 = .ok (.iconst 0, 1) := dk_3 (dk_at dksX7_jars_3 13 rfl rfl)
theorem dX7_jars_84 : decode cX7_jars 84 = .ok (.ior, 1) := dk_128 (dk_at dksX7_jars_3 14 rfl rfl)
theorem dX7_jars_85 : decode cX7_jars 85 = .ok (.istore_n 3, 1) := dk_62 (dk_at dksX7_jars_3 15 rfl rfl)
theorem dX7_jars_86 : decode cX7_jars 86 = .ok (.iinc 4 1, 3) := dk_132 4 1 (dk_at dksX7_jars_3 16 rfl rfl)
theorem dX7_jars_89 : decode cX7_jars 89 = .ok (.goto (-41), 3) := dk_167 255 215 (dk_at dksX7_jars_3 19 rfl rfl)
theorem dX7_jars_92 : decode cX7_jars 92 = .ok (.iload_n 3, 1) := dk_29 (dk_at dksX7_jars_3 22 rfl rfl)
theorem dX7_jars_93 : decode cX7_jars 93 = .ok (.ireturn, 1) := dk_172 (dk_at dksX7_jars_3 23 rfl rfl)
abbrev cX7_heard : ByteArray := prog_20_method_96_code
def yX7_heard : MethodName := ⟨RX7, "heard", "()I"⟩
def dkwX7_heard_9 : List UInt8 := [96, 62, 132, 4, 1, 167, 255, 121, 29, 172]
abbrev dktX7_heard_9 : List UInt8 := dkwX7_heard_9 ++ []
def dkwX7_heard_8 : List UInt8 := [3, 84, 132, 5, 2, 167, 255, 191, 29, 42, 180, 0, 32, 21, 4, 51, 153, 0, 7, 4, 167, 0, 4, 3]
abbrev dktX7_heard_8 : List UInt8 := dkwX7_heard_8 ++ dktX7_heard_9
def dkwX7_heard_7 : List UInt8 := [180, 0, 22, 21, 5, 4, 96, 46, 4, 160, 0, 7, 4, 167, 0, 4, 3, 160, 0, 7, 4, 167, 0, 4]
abbrev dktX7_heard_7 : List UInt8 := dkwX7_heard_7 ++ dktX7_heard_8
def dkwX7_heard_6 : List UInt8 := [51, 153, 0, 55, 42, 180, 0, 32, 21, 4, 42, 21, 4, 42, 180, 0, 22, 21, 5, 46, 182, 1, 106, 42]
abbrev dktX7_heard_6 : List UInt8 := dkwX7_heard_6 ++ dktX7_heard_7
def dkwX7_heard_5 : List UInt8 := [79, 42, 180, 0, 32, 21, 4, 4, 84, 3, 54, 5, 21, 5, 27, 162, 0, 65, 42, 180, 0, 32, 21, 4]
abbrev dktX7_heard_5 : List UInt8 := dkwX7_heard_5 ++ dktX7_heard_6
def dkwX7_heard_4 : List UInt8 := [104, 162, 0, 127, 42, 180, 0, 36, 21, 4, 42, 21, 4, 16, 21, 108, 21, 4, 16, 21, 112, 182, 1, 103]
abbrev dktX7_heard_4 : List UInt8 := dkwX7_heard_4 ++ dktX7_heard_5
def dkwX7_heard_3 : List UInt8 := [167, 255, 217, 28, 154, 0, 5, 2, 172, 3, 62, 3, 54, 4, 21, 4, 16, 21, 42, 180, 0, 7, 7, 46]
abbrev dktX7_heard_3 : List UInt8 := dkwX7_heard_3 ++ dktX7_heard_4
def dkwX7_heard_2 : List UInt8 := [112, 154, 0, 8, 16, 61, 167, 0, 4, 5, 162, 0, 7, 4, 167, 0, 4, 3, 61, 132, 3, 1]
abbrev dktX7_heard_2 : List UInt8 := dkwX7_heard_2 ++ dktX7_heard_3
def dkwX7_heard_1 : List UInt8 := [167, 0, 4, 3, 61, 3, 62, 29, 27, 162, 0, 40, 28, 153, 0, 36, 42, 180, 0, 22, 29, 46, 29, 5]
abbrev dktX7_heard_1 : List UInt8 := dkwX7_heard_1 ++ dktX7_heard_2
def dkwX7_heard_0 : List UInt8 := [42, 180, 0, 70, 60, 42, 3, 181, 0, 70, 27, 5, 112, 154, 0, 13, 27, 16, 40, 163, 0, 7, 4]
abbrev dktX7_heard_0 : List UInt8 := dkwX7_heard_0 ++ dktX7_heard_1
theorem dksX7_heard_0 : cX7_heard.data.toList.drop 0 = dktX7_heard_0 := by decide +kernel
theorem dksX7_heard_1 : cX7_heard.data.toList.drop 23 = dktX7_heard_1 := dk_seg dksX7_heard_0 23 rfl rfl
theorem dksX7_heard_2 : cX7_heard.data.toList.drop 47 = dktX7_heard_2 := dk_seg dksX7_heard_1 24 rfl rfl
theorem dksX7_heard_3 : cX7_heard.data.toList.drop 69 = dktX7_heard_3 := dk_seg dksX7_heard_2 22 rfl rfl
theorem dksX7_heard_4 : cX7_heard.data.toList.drop 93 = dktX7_heard_4 := dk_seg dksX7_heard_3 24 rfl rfl
theorem dksX7_heard_5 : cX7_heard.data.toList.drop 117 = dktX7_heard_5 := dk_seg dksX7_heard_4 24 rfl rfl
theorem dksX7_heard_6 : cX7_heard.data.toList.drop 141 = dktX7_heard_6 := dk_seg dksX7_heard_5 24 rfl rfl
theorem dksX7_heard_7 : cX7_heard.data.toList.drop 165 = dktX7_heard_7 := dk_seg dksX7_heard_6 24 rfl rfl
theorem dksX7_heard_8 : cX7_heard.data.toList.drop 189 = dktX7_heard_8 := dk_seg dksX7_heard_7 24 rfl rfl
theorem dksX7_heard_9 : cX7_heard.data.toList.drop 213 = dktX7_heard_9 := dk_seg dksX7_heard_8 24 rfl rfl
theorem dX7_heard_0 : decode cX7_heard 0 = .ok (.aload_n 0, 1) := dk_42 (dk_at dksX7_heard_0 0 rfl rfl)
theorem dX7_heard_1 : decode cX7_heard 1 = .ok (.getfield 70, 3) := dk_180 0 70 (dk_at dksX7_heard_0 1 rfl rfl)
theorem dX7_heard_4 : decode cX7_heard 4 = .ok (.istore_n 1, 1) := dk_60 (dk_at dksX7_heard_0 4 rfl rfl)
theorem dX7_heard_5 : decode cX7_heard 5 = .ok (.aload_n 0, 1) := dk_42 (dk_at dksX7_heard_0 5 rfl rfl)
theorem dX7_heard_6 : decode cX7_heard 6 = .ok (.iconst 0, 1) := dk_3 (dk_at dksX7_heard_0 6 rfl rfl)
theorem dX7_heard_7 : decode cX7_heard 7 = .ok (.putfield 70, 3) := dk_181 0 70 (dk_at dksX7_heard_0 7 rfl rfl)
theorem dX7_heard_10 : decode cX7_heard 10 = .ok (.iload_n 1, 1) := dk_27 (dk_at dksX7_heard_0 10 rfl rfl)
theorem dX7_heard_11 : decode cX7_heard 11 = .ok (.iconst 2, 1) := dk_5 (dk_at dksX7_heard_0 11 rfl rfl)
theorem dX7_heard_12 : decode cX7_heard 12 = .ok (.irem, 1) := dk_112 (dk_at dksX7_heard_0 12 rfl rfl)
theorem dX7_heard_13 : decode cX7_heard 13 = .ok (.ifCond .ne 13, 3) := dk_154 0 13 (dk_at dksX7_heard_0 13 rfl rfl)
theorem dX7_heard_16 : decode cX7_heard 16 = .ok (.iload_n 1, 1) := dk_27 (dk_at dksX7_heard_0 16 rfl rfl)
theorem dX7_heard_17 : decode cX7_heard 17 = .ok (.bipush 40, 2) := dk_16 40 (dk_at dksX7_heard_0 17 rfl rfl)
theorem dX7_heard_19 : decode cX7_heard 19 = .ok (.if_icmp .gt 7, 3) := dk_163 0 7 (dk_at dksX7_heard_0 19 rfl rfl)
theorem dX7_heard_22 : decode cX7_heard 22 = .ok (.iconst 1, 1) := dk_4 (dk_at dksX7_heard_0 22 rfl rfl)
theorem dX7_heard_23 : decode cX7_heard 23 = .ok (.goto 4, 3) := dk_167 0 4 (dk_at dksX7_heard_1 0 rfl rfl)
theorem dX7_heard_26 : decode cX7_heard 26 = .ok (.iconst 0, 1) := dk_3 (dk_at dksX7_heard_1 3 rfl rfl)
theorem dX7_heard_27 : decode cX7_heard 27 = .ok (.istore_n 2, 1) := dk_61 (dk_at dksX7_heard_1 4 rfl rfl)
theorem dX7_heard_28 : decode cX7_heard 28 = .ok (.iconst 0, 1) := dk_3 (dk_at dksX7_heard_1 5 rfl rfl)
theorem dX7_heard_29 : decode cX7_heard 29 = .ok (.istore_n 3, 1) := dk_62 (dk_at dksX7_heard_1 6 rfl rfl)
theorem dX7_heard_30 : decode cX7_heard 30 = .ok (.iload_n 3, 1) := dk_29 (dk_at dksX7_heard_1 7 rfl rfl)
theorem dX7_heard_31 : decode cX7_heard 31 = .ok (.iload_n 1, 1) := dk_27 (dk_at dksX7_heard_1 8 rfl rfl)
theorem dX7_heard_32 : decode cX7_heard 32 = .ok (.if_icmp .ge 40, 3) := dk_162 0 40 (dk_at dksX7_heard_1 9 rfl rfl)
theorem dX7_heard_35 : decode cX7_heard 35 = .ok (.iload_n 2, 1) := dk_28 (dk_at dksX7_heard_1 12 rfl rfl)
theorem dX7_heard_36 : decode cX7_heard 36 = .ok (.ifCond .eq 36, 3) := dk_153 0 36 (dk_at dksX7_heard_1 13 rfl rfl)
theorem dX7_heard_39 : decode cX7_heard 39 = .ok (.aload_n 0, 1) := dk_42 (dk_at dksX7_heard_1 16 rfl rfl)
theorem dX7_heard_40 : decode cX7_heard 40 = .ok (.getfield 22, 3) := dk_180 0 22 (dk_at dksX7_heard_1 17 rfl rfl)
theorem dX7_heard_43 : decode cX7_heard 43 = .ok (.iload_n 3, 1) := dk_29 (dk_at dksX7_heard_1 20 rfl rfl)
theorem dX7_heard_44 : decode cX7_heard 44 = .ok (.iaload, 1) := dk_46 (dk_at dksX7_heard_1 21 rfl rfl)
theorem dX7_heard_45 : decode cX7_heard 45 = .ok (.iload_n 3, 1) := dk_29 (dk_at dksX7_heard_1 22 rfl rfl)
theorem dX7_heard_46 : decode cX7_heard 46 = .ok (.iconst 2, 1) := dk_5 (dk_at dksX7_heard_1 23 rfl rfl)
theorem dX7_heard_47 : decode cX7_heard 47 = .ok (.irem, 1) := dk_112 (dk_at dksX7_heard_2 0 rfl rfl)
theorem dX7_heard_48 : decode cX7_heard 48 = .ok (.ifCond .ne 8, 3) := dk_154 0 8 (dk_at dksX7_heard_2 1 rfl rfl)
theorem dX7_heard_51 : decode cX7_heard 51 = .ok (.bipush 61, 2) := dk_16 61 (dk_at dksX7_heard_2 4 rfl rfl)
theorem dX7_heard_53 : decode cX7_heard 53 = .ok (.goto 4, 3) := dk_167 0 4 (dk_at dksX7_heard_2 6 rfl rfl)
theorem dX7_heard_56 : decode cX7_heard 56 = .ok (.iconst 2, 1) := dk_5 (dk_at dksX7_heard_2 9 rfl rfl)
theorem dX7_heard_57 : decode cX7_heard 57 = .ok (.if_icmp .ge 7, 3) := dk_162 0 7 (dk_at dksX7_heard_2 10 rfl rfl)
theorem dX7_heard_60 : decode cX7_heard 60 = .ok (.iconst 1, 1) := dk_4 (dk_at dksX7_heard_2 13 rfl rfl)
theorem dX7_heard_61 : decode cX7_heard 61 = .ok (.goto 4, 3) := dk_167 0 4 (dk_at dksX7_heard_2 14 rfl rfl)
theorem dX7_heard_64 : decode cX7_heard 64 = .ok (.iconst 0, 1) := dk_3 (dk_at dksX7_heard_2 17 rfl rfl)
theorem dX7_heard_65 : decode cX7_heard 65 = .ok (.istore_n 2, 1) := dk_61 (dk_at dksX7_heard_2 18 rfl rfl)
theorem dX7_heard_66 : decode cX7_heard 66 = .ok (.iinc 3 1, 3) := dk_132 3 1 (dk_at dksX7_heard_2 19 rfl rfl)
theorem dX7_heard_69 : decode cX7_heard 69 = .ok (.goto (-39), 3) := dk_167 255 217 (dk_at dksX7_heard_3 0 rfl rfl)
theorem dX7_heard_72 : decode cX7_heard 72 = .ok (.iload_n 2, 1) := dk_28 (dk_at dksX7_heard_3 3 rfl rfl)
theorem dX7_heard_73 : decode cX7_heard 73 = .ok (.ifCond .ne 5, 3) := dk_154 0 5 (dk_at dksX7_heard_3 4 rfl rfl)
theorem dX7_heard_76 : decode cX7_heard 76 = .ok (.iconst (-1), 1) := dk_2 (dk_at dksX7_heard_3 7 rfl rfl)
theorem dX7_heard_77 : decode cX7_heard 77 = .ok (.ireturn, 1) := dk_172 (dk_at dksX7_heard_3 8 rfl rfl)
theorem dX7_heard_78 : decode cX7_heard 78 = .ok (.iconst 0, 1) := dk_3 (dk_at dksX7_heard_3 9 rfl rfl)
theorem dX7_heard_79 : decode cX7_heard 79 = .ok (.istore_n 3, 1) := dk_62 (dk_at dksX7_heard_3 10 rfl rfl)
theorem dX7_heard_80 : decode cX7_heard 80 = .ok (.iconst 0, 1) := dk_3 (dk_at dksX7_heard_3 11 rfl rfl)
theorem dX7_heard_81 : decode cX7_heard 81 = .ok (.istore 4, 2) := dk_54 4 (dk_at dksX7_heard_3 12 rfl rfl)
theorem dX7_heard_83 : decode cX7_heard 83 = .ok (.iload 4, 2) := dk_21 4 (dk_at dksX7_heard_3 14 rfl rfl)
theorem dX7_heard_85 : decode cX7_heard 85 = .ok (.bipush 21, 2) := dk_16 21 (dk_at dksX7_heard_3 16 rfl rfl)
theorem dX7_heard_87 : decode cX7_heard 87 = .ok (.aload_n 0, 1) := dk_42 (dk_at dksX7_heard_3 18 rfl rfl)
theorem dX7_heard_88 : decode cX7_heard 88 = .ok (.getfield 7, 3) := dk_180 0 7 (dk_at dksX7_heard_3 19 rfl rfl)
theorem dX7_heard_91 : decode cX7_heard 91 = .ok (.iconst 4, 1) := dk_7 (dk_at dksX7_heard_3 22 rfl rfl)
theorem dX7_heard_92 : decode cX7_heard 92 = .ok (.iaload, 1) := dk_46 (dk_at dksX7_heard_3 23 rfl rfl)
theorem dX7_heard_93 : decode cX7_heard 93 = .ok (.imul, 1) := dk_104 (dk_at dksX7_heard_4 0 rfl rfl)
theorem dX7_heard_94 : decode cX7_heard 94 = .ok (.if_icmp .ge 127, 3) := dk_162 0 127 (dk_at dksX7_heard_4 1 rfl rfl)
theorem dX7_heard_97 : decode cX7_heard 97 = .ok (.aload_n 0, 1) := dk_42 (dk_at dksX7_heard_4 4 rfl rfl)
theorem dX7_heard_98 : decode cX7_heard 98 = .ok (.getfield 36, 3) := dk_180 0 36 (dk_at dksX7_heard_4 5 rfl rfl)
theorem dX7_heard_101 : decode cX7_heard 101 = .ok (.iload 4, 2) := dk_21 4 (dk_at dksX7_heard_4 8 rfl rfl)
theorem dX7_heard_103 : decode cX7_heard 103 = .ok (.aload_n 0, 1) := dk_42 (dk_at dksX7_heard_4 10 rfl rfl)
theorem dX7_heard_104 : decode cX7_heard 104 = .ok (.iload 4, 2) := dk_21 4 (dk_at dksX7_heard_4 11 rfl rfl)
theorem dX7_heard_106 : decode cX7_heard 106 = .ok (.bipush 21, 2) := dk_16 21 (dk_at dksX7_heard_4 13 rfl rfl)
theorem dX7_heard_108 : decode cX7_heard 108 = .ok (.idiv, 1) := dk_108 (dk_at dksX7_heard_4 15 rfl rfl)
theorem dX7_heard_109 : decode cX7_heard 109 = .ok (.iload 4, 2) := dk_21 4 (dk_at dksX7_heard_4 16 rfl rfl)
theorem dX7_heard_111 : decode cX7_heard 111 = .ok (.bipush 21, 2) := dk_16 21 (dk_at dksX7_heard_4 18 rfl rfl)
theorem dX7_heard_113 : decode cX7_heard 113 = .ok (.irem, 1) := dk_112 (dk_at dksX7_heard_4 20 rfl rfl)
theorem dX7_heard_114 : decode cX7_heard 114 = .ok (.invokevirtual 359, 3) := dk_182 1 103 (dk_at dksX7_heard_4 21 rfl rfl)
theorem dX7_heard_117 : decode cX7_heard 117 = .ok (.iastore, 1) := dk_79 (dk_at dksX7_heard_5 0 rfl rfl)
theorem dX7_heard_118 : decode cX7_heard 118 = .ok (.aload_n 0, 1) := dk_42 (dk_at dksX7_heard_5 1 rfl rfl)
theorem dX7_heard_119 : decode cX7_heard 119 = .ok (.getfield 32, 3) := dk_180 0 32 (dk_at dksX7_heard_5 2 rfl rfl)
theorem dX7_heard_122 : decode cX7_heard 122 = .ok (.iload 4, 2) := dk_21 4 (dk_at dksX7_heard_5 5 rfl rfl)
theorem dX7_heard_124 : decode cX7_heard 124 = .ok (.iconst 1, 1) := dk_4 (dk_at dksX7_heard_5 7 rfl rfl)
theorem dX7_heard_125 : decode cX7_heard 125 = .ok (.bastore, 1) := dk_84 (dk_at dksX7_heard_5 8 rfl rfl)
theorem dX7_heard_126 : decode cX7_heard 126 = .ok (.iconst 0, 1) := dk_3 (dk_at dksX7_heard_5 9 rfl rfl)
theorem dX7_heard_127 : decode cX7_heard 127 = .ok (.istore 5, 2) := dk_54 5 (dk_at dksX7_heard_5 10 rfl rfl)
theorem dX7_heard_129 : decode cX7_heard 129 = .ok (.iload 5, 2) := dk_21 5 (dk_at dksX7_heard_5 12 rfl rfl)
theorem dX7_heard_131 : decode cX7_heard 131 = .ok (.iload_n 1, 1) := dk_27 (dk_at dksX7_heard_5 14 rfl rfl)
theorem dX7_heard_132 : decode cX7_heard 132 = .ok (.if_icmp .ge 65, 3) := dk_162 0 65 (dk_at dksX7_heard_5 15 rfl rfl)
theorem dX7_heard_135 : decode cX7_heard 135 = .ok (.aload_n 0, 1) := dk_42 (dk_at dksX7_heard_5 18 rfl rfl)
theorem dX7_heard_136 : decode cX7_heard 136 = .ok (.getfield 32, 3) := dk_180 0 32 (dk_at dksX7_heard_5 19 rfl rfl)
theorem dX7_heard_139 : decode cX7_heard 139 = .ok (.iload 4, 2) := dk_21 4 (dk_at dksX7_heard_5 22 rfl rfl)
theorem dX7_heard_141 : decode cX7_heard 141 = .ok (.baload, 1) := dk_51 (dk_at dksX7_heard_6 0 rfl rfl)
theorem dX7_heard_142 : decode cX7_heard 142 = .ok (.ifCond .eq 55, 3) := dk_153 0 55 (dk_at dksX7_heard_6 1 rfl rfl)
theorem dX7_heard_145 : decode cX7_heard 145 = .ok (.aload_n 0, 1) := dk_42 (dk_at dksX7_heard_6 4 rfl rfl)
theorem dX7_heard_146 : decode cX7_heard 146 = .ok (.getfield 32, 3) := dk_180 0 32 (dk_at dksX7_heard_6 5 rfl rfl)
theorem dX7_heard_149 : decode cX7_heard 149 = .ok (.iload 4, 2) := dk_21 4 (dk_at dksX7_heard_6 8 rfl rfl)
theorem dX7_heard_151 : decode cX7_heard 151 = .ok (.aload_n 0, 1) := dk_42 (dk_at dksX7_heard_6 10 rfl rfl)
theorem dX7_heard_152 : decode cX7_heard 152 = .ok (.iload 4, 2) := dk_21 4 (dk_at dksX7_heard_6 11 rfl rfl)
theorem dX7_heard_154 : decode cX7_heard 154 = .ok (.aload_n 0, 1) := dk_42 (dk_at dksX7_heard_6 13 rfl rfl)
theorem dX7_heard_155 : decode cX7_heard 155 = .ok (.getfield 22, 3) := dk_180 0 22 (dk_at dksX7_heard_6 14 rfl rfl)
theorem dX7_heard_158 : decode cX7_heard 158 = .ok (.iload 5, 2) := dk_21 5 (dk_at dksX7_heard_6 17 rfl rfl)
theorem dX7_heard_160 : decode cX7_heard 160 = .ok (.iaload, 1) := dk_46 (dk_at dksX7_heard_6 19 rfl rfl)
theorem dX7_heard_161 : decode cX7_heard 161 = .ok (.invokevirtual 362, 3) := dk_182 1 106 (dk_at dksX7_heard_6 20 rfl rfl)
theorem dX7_heard_164 : decode cX7_heard 164 = .ok (.aload_n 0, 1) := dk_42 (dk_at dksX7_heard_6 23 rfl rfl)
theorem dX7_heard_165 : decode cX7_heard 165 = .ok (.getfield 22, 3) := dk_180 0 22 (dk_at dksX7_heard_7 0 rfl rfl)
theorem dX7_heard_168 : decode cX7_heard 168 = .ok (.iload 5, 2) := dk_21 5 (dk_at dksX7_heard_7 3 rfl rfl)
theorem dX7_heard_170 : decode cX7_heard 170 = .ok (.iconst 1, 1) := dk_4 (dk_at dksX7_heard_7 5 rfl rfl)
theorem dX7_heard_171 : decode cX7_heard 171 = .ok (.iadd, 1) := dk_96 (dk_at dksX7_heard_7 6 rfl rfl)
theorem dX7_heard_172 : decode cX7_heard 172 = .ok (.iaload, 1) := dk_46 (dk_at dksX7_heard_7 7 rfl rfl)
theorem dX7_heard_173 : decode cX7_heard 173 = .ok (.iconst 1, 1) := dk_4 (dk_at dksX7_heard_7 8 rfl rfl)
theorem dX7_heard_174 : decode cX7_heard 174 = .ok (.if_icmp .ne 7, 3) := dk_160 0 7 (dk_at dksX7_heard_7 9 rfl rfl)
theorem dX7_heard_177 : decode cX7_heard 177 = .ok (.iconst 1, 1) := dk_4 (dk_at dksX7_heard_7 12 rfl rfl)
theorem dX7_heard_178 : decode cX7_heard 178 = .ok (.goto 4, 3) := dk_167 0 4 (dk_at dksX7_heard_7 13 rfl rfl)
theorem dX7_heard_181 : decode cX7_heard 181 = .ok (.iconst 0, 1) := dk_3 (dk_at dksX7_heard_7 16 rfl rfl)
theorem dX7_heard_182 : decode cX7_heard 182 = .ok (.if_icmp .ne 7, 3) := dk_160 0 7 (dk_at dksX7_heard_7 17 rfl rfl)
theorem dX7_heard_185 : decode cX7_heard 185 = .ok (.iconst 1, 1) := dk_4 (dk_at dksX7_heard_7 20 rfl rfl)
theorem dX7_heard_186 : decode cX7_heard 186 = .ok (.goto 4, 3) := dk_167 0 4 (dk_at dksX7_heard_7 21 rfl rfl)
theorem dX7_heard_189 : decode cX7_heard 189 = .ok (.iconst 0, 1) := dk_3 (dk_at dksX7_heard_8 0 rfl rfl)
theorem dX7_heard_190 : decode cX7_heard 190 = .ok (.bastore, 1) := dk_84 (dk_at dksX7_heard_8 1 rfl rfl)
theorem dX7_heard_191 : decode cX7_heard 191 = .ok (.iinc 5 2, 3) := dk_132 5 2 (dk_at dksX7_heard_8 2 rfl rfl)
theorem dX7_heard_194 : decode cX7_heard 194 = .ok (.goto (-65), 3) := dk_167 255 191 (dk_at dksX7_heard_8 5 rfl rfl)
theorem dX7_heard_197 : decode cX7_heard 197 = .ok (.iload_n 3, 1) := dk_29 (dk_at dksX7_heard_8 8 rfl rfl)
theorem dX7_heard_198 : decode cX7_heard 198 = .ok (.aload_n 0, 1) := dk_42 (dk_at dksX7_heard_8 9 rfl rfl)
theorem dX7_heard_199 : decode cX7_heard 199 = .ok (.getfield 32, 3) := dk_180 0 32 (dk_at dksX7_heard_8 10 rfl rfl)
theorem dX7_heard_202 : decode cX7_heard 202 = .ok (.iload 4, 2) := dk_21 4 (dk_at dksX7_heard_8 13 rfl rfl)
theorem dX7_heard_204 : decode cX7_heard 204 = .ok (.baload, 1) := dk_51 (dk_at dksX7_heard_8 15 rfl rfl)
theorem dX7_heard_205 : decode cX7_heard 205 = .ok (.ifCond .eq 7, 3) := dk_153 0 7 (dk_at dksX7_heard_8 16 rfl rfl)
theorem dX7_heard_208 : decode cX7_heard 208 = .ok (.iconst 1, 1) := dk_4 (dk_at dksX7_heard_8 19 rfl rfl)
theorem dX7_heard_209 : decode cX7_heard 209 = .ok (.goto 4, 3) := dk_167 0 4 (dk_at dksX7_heard_8 20 rfl rfl)
theorem dX7_heard_212 : decode cX7_heard 212 = .ok (.iconst 0, 1) := dk_3 (dk_at dksX7_heard_8 23 rfl rfl)
theorem dX7_heard_213 : decode cX7_heard 213 = .ok (.iadd, 1) := dk_96 (dk_at dksX7_heard_9 0 rfl rfl)
theorem dX7_heard_214 : decode cX7_heard 214 = .ok (.istore_n 3, 1) := dk_62 (dk_at dksX7_heard_9 1 rfl rfl)
theorem dX7_heard_215 : decode cX7_heard 215 = .ok (.iinc 4 1, 3) := dk_132 4 1 (dk_at dksX7_heard_9 2 rfl rfl)
theorem dX7_heard_218 : decode cX7_heard 218 = .ok (.goto (-135), 3) := dk_167 255 121 (dk_at dksX7_heard_9 5 rfl rfl)
theorem dX7_heard_221 : decode cX7_heard 221 = .ok (.iload_n 3, 1) := dk_29 (dk_at dksX7_heard_9 8 rfl rfl)
theorem dX7_heard_222 : decode cX7_heard 222 = .ok (.ireturn, 1) := dk_172 (dk_at dksX7_heard_9 9 rfl rfl)
abbrev cX7_upOf : ByteArray := prog_20_method_94_code
def yX7_upOf : MethodName := ⟨RX7, "upOf", "(II)I"⟩
def dkwX7_upOf_1 : List UInt8 := [182, 1, 10, 96, 96, 62, 132, 4, 1, 167, 255, 229, 21, 4, 172]
abbrev dktX7_upOf_1 : List UInt8 := dkwX7_upOf_1 ++ []
def dkwX7_upOf_0 : List UInt8 := [3, 62, 28, 54, 4, 29, 42, 27, 3, 182, 0, 67, 162, 0, 23, 29, 4, 42, 27, 21, 4, 7, 112]
abbrev dktX7_upOf_0 : List UInt8 := dkwX7_upOf_0 ++ dktX7_upOf_1
theorem dksX7_upOf_0 : cX7_upOf.data.toList.drop 0 = dktX7_upOf_0 := by decide +kernel
theorem dksX7_upOf_1 : cX7_upOf.data.toList.drop 23 = dktX7_upOf_1 := dk_seg dksX7_upOf_0 23 rfl rfl
theorem dX7_upOf_0 : decode cX7_upOf 0 = .ok (.iconst 0, 1) := dk_3 (dk_at dksX7_upOf_0 0 rfl rfl)
theorem dX7_upOf_1 : decode cX7_upOf 1 = .ok (.istore_n 3, 1) := dk_62 (dk_at dksX7_upOf_0 1 rfl rfl)
theorem dX7_upOf_2 : decode cX7_upOf 2 = .ok (.iload_n 2, 1) := dk_28 (dk_at dksX7_upOf_0 2 rfl rfl)
theorem dX7_upOf_3 : decode cX7_upOf 3 = .ok (.istore 4, 2) := dk_54 4 (dk_at dksX7_upOf_0 3 rfl rfl)
theorem dX7_upOf_5 : decode cX7_upOf 5 = .ok (.iload_n 3, 1) := dk_29 (dk_at dksX7_upOf_0 5 rfl rfl)
theorem dX7_upOf_6 : decode cX7_upOf 6 = .ok (.aload_n 0, 1) := dk_42 (dk_at dksX7_upOf_0 6 rfl rfl)
theorem dX7_upOf_7 : decode cX7_upOf 7 = .ok (.iload_n 1, 1) := dk_27 (dk_at dksX7_upOf_0 7 rfl rfl)
theorem dX7_upOf_8 : decode cX7_upOf 8 = .ok (.iconst 0, 1) := dk_3 (dk_at dksX7_upOf_0 8 rfl rfl)
theorem dX7_upOf_9 : decode cX7_upOf 9 = .ok (.invokevirtual 67, 3) := dk_182 0 67 (dk_at dksX7_upOf_0 9 rfl rfl)
theorem dX7_upOf_12 : decode cX7_upOf 12 = .ok (.if_icmp .ge 23, 3) := dk_162 0 23 (dk_at dksX7_upOf_0 12 rfl rfl)
theorem dX7_upOf_15 : decode cX7_upOf 15 = .ok (.iload_n 3, 1) := dk_29 (dk_at dksX7_upOf_0 15 rfl rfl)
theorem dX7_upOf_16 : decode cX7_upOf 16 = .ok (.iconst 1, 1) := dk_4 (dk_at dksX7_upOf_0 16 rfl rfl)
theorem dX7_upOf_17 : decode cX7_upOf 17 = .ok (.aload_n 0, 1) := dk_42 (dk_at dksX7_upOf_0 17 rfl rfl)
theorem dX7_upOf_18 : decode cX7_upOf 18 = .ok (.iload_n 1, 1) := dk_27 (dk_at dksX7_upOf_0 18 rfl rfl)
theorem dX7_upOf_19 : decode cX7_upOf 19 = .ok (.iload 4, 2) := dk_21 4 (dk_at dksX7_upOf_0 19 rfl rfl)
theorem dX7_upOf_21 : decode cX7_upOf 21 = .ok (.iconst 4, 1) := dk_7 (dk_at dksX7_upOf_0 21 rfl rfl)
theorem dX7_upOf_22 : decode cX7_upOf 22 = .ok (.irem, 1) := dk_112 (dk_at dksX7_upOf_0 22 rfl rfl)
theorem dX7_upOf_23 : decode cX7_upOf 23 = .ok (.invokevirtual 266, 3) := dk_182 1 10 (dk_at dksX7_upOf_1 0 rfl rfl)
theorem dX7_upOf_26 : decode cX7_upOf 26 = .ok (.iadd, 1) := dk_96 (dk_at dksX7_upOf_1 3 rfl rfl)
theorem dX7_upOf_27 : decode cX7_upOf 27 = .ok (.iadd, 1) := dk_96 (dk_at dksX7_upOf_1 4 rfl rfl)
theorem dX7_upOf_28 : decode cX7_upOf 28 = .ok (.istore_n 3, 1) := dk_62 (dk_at dksX7_upOf_1 5 rfl rfl)
theorem dX7_upOf_29 : decode cX7_upOf 29 = .ok (.iinc 4 1, 3) := dk_132 4 1 (dk_at dksX7_upOf_1 6 rfl rfl)
theorem dX7_upOf_32 : decode cX7_upOf 32 = .ok (.goto (-27), 3) := dk_167 255 229 (dk_at dksX7_upOf_1 9 rfl rfl)
theorem dX7_upOf_35 : decode cX7_upOf 35 = .ok (.iload 4, 2) := dk_21 4 (dk_at dksX7_upOf_1 12 rfl rfl)
theorem dX7_upOf_37 : decode cX7_upOf 37 = .ok (.ireturn, 1) := dk_172 (dk_at dksX7_upOf_1 14 rfl rfl)
abbrev cX7_isRead : ByteArray := prog_20_method_95_code
def yX7_isRead : MethodName := ⟨RX7, "isRead", "(II)Z"⟩
def dkwX7_isRead_1 : List UInt8 := [28, 42, 180, 0, 36, 27, 46, 29, 96, 162, 0, 7, 4, 167, 0, 4, 3, 172]
abbrev dktX7_isRead_1 : List UInt8 := dkwX7_isRead_1 ++ []
def dkwX7_isRead_0 : List UInt8 := [42, 27, 16, 21, 108, 4, 182, 0, 67, 62, 28, 42, 180, 0, 36, 27, 46, 161, 0, 23, 29, 153, 0, 15]
abbrev dktX7_isRead_0 : List UInt8 := dkwX7_isRead_0 ++ dktX7_isRead_1
theorem dksX7_isRead_0 : cX7_isRead.data.toList.drop 0 = dktX7_isRead_0 := by decide +kernel
theorem dksX7_isRead_1 : cX7_isRead.data.toList.drop 24 = dktX7_isRead_1 := dk_seg dksX7_isRead_0 24 rfl rfl
theorem dX7_isRead_0 : decode cX7_isRead 0 = .ok (.aload_n 0, 1) := dk_42 (dk_at dksX7_isRead_0 0 rfl rfl)
theorem dX7_isRead_1 : decode cX7_isRead 1 = .ok (.iload_n 1, 1) := dk_27 (dk_at dksX7_isRead_0 1 rfl rfl)
theorem dX7_isRead_2 : decode cX7_isRead 2 = .ok (.bipush 21, 2) := dk_16 21 (dk_at dksX7_isRead_0 2 rfl rfl)
theorem dX7_isRead_4 : decode cX7_isRead 4 = .ok (.idiv, 1) := dk_108 (dk_at dksX7_isRead_0 4 rfl rfl)
theorem dX7_isRead_5 : decode cX7_isRead 5 = .ok (.iconst 1, 1) := dk_4 (dk_at dksX7_isRead_0 5 rfl rfl)
theorem dX7_isRead_6 : decode cX7_isRead 6 = .ok (.invokevirtual 67, 3) := dk_182 0 67 (dk_at dksX7_isRead_0 6 rfl rfl)
theorem dX7_isRead_9 : decode cX7_isRead 9 = .ok (.istore_n 3, 1) := dk_62 (dk_at dksX7_isRead_0 9 rfl rfl)
theorem dX7_isRead_10 : decode cX7_isRead 10 = .ok (.iload_n 2, 1) := dk_28 (dk_at dksX7_isRead_0 10 rfl rfl)
theorem dX7_isRead_11 : decode cX7_isRead 11 = .ok (.aload_n 0, 1) := dk_42 (dk_at dksX7_isRead_0 11 rfl rfl)
theorem dX7_isRead_12 : decode cX7_isRead 12 = .ok (.getfield 36, 3) := dk_180 0 36 (dk_at dksX7_isRead_0 12 rfl rfl)
theorem dX7_isRead_15 : decode cX7_isRead 15 = .ok (.iload_n 1, 1) := dk_27 (dk_at dksX7_isRead_0 15 rfl rfl)
theorem dX7_isRead_16 : decode cX7_isRead 16 = .ok (.iaload, 1) := dk_46 (dk_at dksX7_isRead_0 16 rfl rfl)
theorem dX7_isRead_17 : decode cX7_isRead 17 = .ok (.if_icmp .lt 23, 3) := dk_161 0 23 (dk_at dksX7_isRead_0 17 rfl rfl)
theorem dX7_isRead_20 : decode cX7_isRead 20 = .ok (.iload_n 3, 1) := dk_29 (dk_at dksX7_isRead_0 20 rfl rfl)
theorem dX7_isRead_21 : decode cX7_isRead 21 = .ok (.ifCond .eq 15, 3) := dk_153 0 15 (dk_at dksX7_isRead_0 21 rfl rfl)
theorem dX7_isRead_24 : decode cX7_isRead 24 = .ok (.iload_n 2, 1) := dk_28 (dk_at dksX7_isRead_1 0 rfl rfl)
theorem dX7_isRead_25 : decode cX7_isRead 25 = .ok (.aload_n 0, 1) := dk_42 (dk_at dksX7_isRead_1 1 rfl rfl)
theorem dX7_isRead_26 : decode cX7_isRead 26 = .ok (.getfield 36, 3) := dk_180 0 36 (dk_at dksX7_isRead_1 2 rfl rfl)
theorem dX7_isRead_29 : decode cX7_isRead 29 = .ok (.iload_n 1, 1) := dk_27 (dk_at dksX7_isRead_1 5 rfl rfl)
theorem dX7_isRead_30 : decode cX7_isRead 30 = .ok (.iaload, 1) := dk_46 (dk_at dksX7_isRead_1 6 rfl rfl)
theorem dX7_isRead_31 : decode cX7_isRead 31 = .ok (.iload_n 3, 1) := dk_29 (dk_at dksX7_isRead_1 7 rfl rfl)
theorem dX7_isRead_32 : decode cX7_isRead 32 = .ok (.iadd, 1) := dk_96 (dk_at dksX7_isRead_1 8 rfl rfl)
theorem dX7_isRead_33 : decode cX7_isRead 33 = .ok (.if_icmp .ge 7, 3) := dk_162 0 7 (dk_at dksX7_isRead_1 9 rfl rfl)
theorem dX7_isRead_36 : decode cX7_isRead 36 = .ok (.iconst 1, 1) := dk_4 (dk_at dksX7_isRead_1 12 rfl rfl)
theorem dX7_isRead_37 : decode cX7_isRead 37 = .ok (.goto 4, 3) := dk_167 0 4 (dk_at dksX7_isRead_1 13 rfl rfl)
theorem dX7_isRead_40 : decode cX7_isRead 40 = .ok (.iconst 0, 1) := dk_3 (dk_at dksX7_isRead_1 16 rfl rfl)
theorem dX7_isRead_41 : decode cX7_isRead 41 = .ok (.ireturn, 1) := dk_172 (dk_at dksX7_isRead_1 17 rfl rfl)
abbrev cX7_ask : ByteArray := prog_20_method_98_code
def yX7_ask : MethodName := ⟨RX7, "ask", "()I"⟩
def dkwX7_ask_6 : List UInt8 := [167, 255, 155, 28, 172]
abbrev dktX7_ask_6 : List UInt8 := dkwX7_ask_6 ++ []
def dkwX7_ask_5 : List UInt8 := [161, 0, 6, 167, 0, 16, 21, 5, 27, 21, 5, 100, 184, 1, 13, 62, 21, 4, 61, 132, 4, 1]
abbrev dktX7_ask_5 : List UInt8 := dkwX7_ask_5 ++ dktX7_ask_6
def dkwX7_ask_4 : List UInt8 := [167, 0, 4, 3, 96, 54, 5, 132, 6, 1, 167, 255, 208, 21, 5, 27, 21, 5, 100, 184, 1, 13, 29]
abbrev dktX7_ask_4 : List UInt8 := dkwX7_ask_4 ++ dktX7_ask_5
def dkwX7_ask_3 : List UInt8 := [21, 5, 42, 180, 0, 32, 21, 6, 51, 153, 0, 18, 42, 21, 6, 21, 4, 182, 1, 106, 153, 0, 7, 4]
abbrev dktX7_ask_3 : List UInt8 := dkwX7_ask_3 ++ dktX7_ask_4
def dkwX7_ask_2 : List UInt8 := [164, 0, 95, 3, 54, 5, 3, 54, 6, 21, 6, 16, 21, 42, 180, 0, 7, 7, 46, 104, 162, 0, 40]
abbrev dktX7_ask_2 : List UInt8 := dkwX7_ask_2 ++ dktX7_ask_3
def dkwX7_ask_1 : List UInt8 := [158, 0, 5, 3, 172, 2, 61, 19, 1, 112, 62, 3, 54, 4, 21, 4, 16, 60, 163, 0, 100, 27, 4]
abbrev dktX7_ask_1 : List UInt8 := dkwX7_ask_1 ++ dktX7_ask_2
def dkwX7_ask_0 : List UInt8 := [42, 182, 1, 109, 60, 42, 27, 2, 160, 0, 7, 4, 167, 0, 4, 3, 181, 0, 45, 42, 180, 0, 45]
abbrev dktX7_ask_0 : List UInt8 := dkwX7_ask_0 ++ dktX7_ask_1
theorem dksX7_ask_0 : cX7_ask.data.toList.drop 0 = dktX7_ask_0 := by decide +kernel
theorem dksX7_ask_1 : cX7_ask.data.toList.drop 23 = dktX7_ask_1 := dk_seg dksX7_ask_0 23 rfl rfl
theorem dksX7_ask_2 : cX7_ask.data.toList.drop 46 = dktX7_ask_2 := dk_seg dksX7_ask_1 23 rfl rfl
theorem dksX7_ask_3 : cX7_ask.data.toList.drop 69 = dktX7_ask_3 := dk_seg dksX7_ask_2 23 rfl rfl
theorem dksX7_ask_4 : cX7_ask.data.toList.drop 93 = dktX7_ask_4 := dk_seg dksX7_ask_3 24 rfl rfl
theorem dksX7_ask_5 : cX7_ask.data.toList.drop 116 = dktX7_ask_5 := dk_seg dksX7_ask_4 23 rfl rfl
theorem dksX7_ask_6 : cX7_ask.data.toList.drop 138 = dktX7_ask_6 := dk_seg dksX7_ask_5 22 rfl rfl
theorem dX7_ask_0 : decode cX7_ask 0 = .ok (.aload_n 0, 1) := dk_42 (dk_at dksX7_ask_0 0 rfl rfl)
theorem dX7_ask_1 : decode cX7_ask 1 = .ok (.invokevirtual 365, 3) := dk_182 1 109 (dk_at dksX7_ask_0 1 rfl rfl)
theorem dX7_ask_4 : decode cX7_ask 4 = .ok (.istore_n 1, 1) := dk_60 (dk_at dksX7_ask_0 4 rfl rfl)
theorem dX7_ask_5 : decode cX7_ask 5 = .ok (.aload_n 0, 1) := dk_42 (dk_at dksX7_ask_0 5 rfl rfl)
theorem dX7_ask_6 : decode cX7_ask 6 = .ok (.iload_n 1, 1) := dk_27 (dk_at dksX7_ask_0 6 rfl rfl)
theorem dX7_ask_7 : decode cX7_ask 7 = .ok (.iconst (-1), 1) := dk_2 (dk_at dksX7_ask_0 7 rfl rfl)
theorem dX7_ask_8 : decode cX7_ask 8 = .ok (.if_icmp .ne 7, 3) := dk_160 0 7 (dk_at dksX7_ask_0 8 rfl rfl)
theorem dX7_ask_11 : decode cX7_ask 11 = .ok (.iconst 1, 1) := dk_4 (dk_at dksX7_ask_0 11 rfl rfl)
theorem dX7_ask_12 : decode cX7_ask 12 = .ok (.goto 4, 3) := dk_167 0 4 (dk_at dksX7_ask_0 12 rfl rfl)
theorem dX7_ask_15 : decode cX7_ask 15 = .ok (.iconst 0, 1) := dk_3 (dk_at dksX7_ask_0 15 rfl rfl)
theorem dX7_ask_16 : decode cX7_ask 16 = .ok (.putfield 45, 3) := dk_181 0 45 (dk_at dksX7_ask_0 16 rfl rfl)
theorem dX7_ask_19 : decode cX7_ask 19 = .ok (.aload_n 0, 1) := dk_42 (dk_at dksX7_ask_0 19 rfl rfl)
theorem dX7_ask_20 : decode cX7_ask 20 = .ok (.getfield 45, 3) := dk_180 0 45 (dk_at dksX7_ask_0 20 rfl rfl)
theorem dX7_ask_23 : decode cX7_ask 23 = .ok (.ifCond .le 5, 3) := dk_158 0 5 (dk_at dksX7_ask_1 0 rfl rfl)
theorem dX7_ask_26 : decode cX7_ask 26 = .ok (.iconst 0, 1) := dk_3 (dk_at dksX7_ask_1 3 rfl rfl)
theorem dX7_ask_27 : decode cX7_ask 27 = .ok (.ireturn, 1) := dk_172 (dk_at dksX7_ask_1 4 rfl rfl)
theorem dX7_ask_28 : decode cX7_ask 28 = .ok (.iconst (-1), 1) := dk_2 (dk_at dksX7_ask_1 5 rfl rfl)
theorem dX7_ask_29 : decode cX7_ask 29 = .ok (.istore_n 2, 1) := dk_61 (dk_at dksX7_ask_1 6 rfl rfl)
theorem dX7_ask_30 : decode cX7_ask 30 = .ok (.ldc_w 368, 3) := dk_19 1 112 (dk_at dksX7_ask_1 7 rfl rfl)
theorem dX7_ask_33 : decode cX7_ask 33 = .ok (.istore_n 3, 1) := dk_62 (dk_at dksX7_ask_1 10 rfl rfl)
theorem dX7_ask_34 : decode cX7_ask 34 = .ok (.iconst 0, 1) := dk_3 (dk_at dksX7_ask_1 11 rfl rfl)
theorem dX7_ask_35 : decode cX7_ask 35 = .ok (.istore 4, 2) := dk_54 4 (dk_at dksX7_ask_1 12 rfl rfl)
theorem dX7_ask_37 : decode cX7_ask 37 = .ok (.iload 4, 2) := dk_21 4 (dk_at dksX7_ask_1 14 rfl rfl)
theorem dX7_ask_39 : decode cX7_ask 39 = .ok (.bipush 60, 2) := dk_16 60 (dk_at dksX7_ask_1 16 rfl rfl)
theorem dX7_ask_41 : decode cX7_ask 41 = .ok (.if_icmp .gt 100, 3) := dk_163 0 100 (dk_at dksX7_ask_1 18 rfl rfl)
theorem dX7_ask_44 : decode cX7_ask 44 = .ok (.iload_n 1, 1) := dk_27 (dk_at dksX7_ask_1 21 rfl rfl)
theorem dX7_ask_45 : decode cX7_ask 45 = .ok (.iconst 1, 1) := dk_4 (dk_at dksX7_ask_1 22 rfl rfl)
theorem dX7_ask_46 : decode cX7_ask 46 = .ok (.if_icmp .le 95, 3) := dk_164 0 95 (dk_at dksX7_ask_2 0 rfl rfl)
theorem dX7_ask_49 : decode cX7_ask 49 = .ok (.iconst 0, 1) := dk_3 (dk_at dksX7_ask_2 3 rfl rfl)
theorem dX7_ask_50 : decode cX7_ask 50 = .ok (.istore 5, 2) := dk_54 5 (dk_at dksX7_ask_2 4 rfl rfl)
theorem dX7_ask_52 : decode cX7_ask 52 = .ok (.iconst 0, 1) := dk_3 (dk_at dksX7_ask_2 6 rfl rfl)
theorem dX7_ask_53 : decode cX7_ask 53 = .ok (.istore 6, 2) := dk_54 6 (dk_at dksX7_ask_2 7 rfl rfl)
theorem dX7_ask_55 : decode cX7_ask 55 = .ok (.iload 6, 2) := dk_21 6 (dk_at dksX7_ask_2 9 rfl rfl)
theorem dX7_ask_57 : decode cX7_ask 57 = .ok (.bipush 21, 2) := dk_16 21 (dk_at dksX7_ask_2 11 rfl rfl)
theorem dX7_ask_59 : decode cX7_ask 59 = .ok (.aload_n 0, 1) := dk_42 (dk_at dksX7_ask_2 13 rfl rfl)
theorem dX7_ask_60 : decode cX7_ask 60 = .ok (.getfield 7, 3) := dk_180 0 7 (dk_at dksX7_ask_2 14 rfl rfl)
theorem dX7_ask_63 : decode cX7_ask 63 = .ok (.iconst 4, 1) := dk_7 (dk_at dksX7_ask_2 17 rfl rfl)
theorem dX7_ask_64 : decode cX7_ask 64 = .ok (.iaload, 1) := dk_46 (dk_at dksX7_ask_2 18 rfl rfl)
theorem dX7_ask_65 : decode cX7_ask 65 = .ok (.imul, 1) := dk_104 (dk_at dksX7_ask_2 19 rfl rfl)
theorem dX7_ask_66 : decode cX7_ask 66 = .ok (.if_icmp .ge 40, 3) := dk_162 0 40 (dk_at dksX7_ask_2 20 rfl rfl)
theorem dX7_ask_69 : decode cX7_ask 69 = .ok (.iload 5, 2) := dk_21 5 (dk_at dksX7_ask_3 0 rfl rfl)
theorem dX7_ask_71 : decode cX7_ask 71 = .ok (.aload_n 0, 1) := dk_42 (dk_at dksX7_ask_3 2 rfl rfl)
theorem dX7_ask_72 : decode cX7_ask 72 = .ok (.getfield 32, 3) := dk_180 0 32 (dk_at dksX7_ask_3 3 rfl rfl)
theorem dX7_ask_75 : decode cX7_ask 75 = .ok (.iload 6, 2) := dk_21 6 (dk_at dksX7_ask_3 6 rfl rfl)
theorem dX7_ask_77 : decode cX7_ask 77 = .ok (.baload, 1) := dk_51 (dk_at dksX7_ask_3 8 rfl rfl)
theorem dX7_ask_78 : decode cX7_ask 78 = .ok (.ifCond .eq 18, 3) := dk_153 0 18 (dk_at dksX7_ask_3 9 rfl rfl)
theorem dX7_ask_81 : decode cX7_ask 81 = .ok (.aload_n 0, 1) := dk_42 (dk_at dksX7_ask_3 12 rfl rfl)
theorem dX7_ask_82 : decode cX7_ask 82 = .ok (.iload 6, 2) := dk_21 6 (dk_at dksX7_ask_3 13 rfl rfl)
theorem dX7_ask_84 : decode cX7_ask 84 = .ok (.iload 4, 2) := dk_21 4 (dk_at dksX7_ask_3 15 rfl rfl)
theorem dX7_ask_86 : decode cX7_ask 86 = .ok (.invokevirtual 362, 3) := dk_182 1 106 (dk_at dksX7_ask_3 17 rfl rfl)
theorem dX7_ask_89 : decode cX7_ask 89 = .ok (.ifCond .eq 7, 3) := dk_153 0 7 (dk_at dksX7_ask_3 20 rfl rfl)
theorem dX7_ask_92 : decode cX7_ask 92 = .ok (.iconst 1, 1) := dk_4 (dk_at dksX7_ask_3 23 rfl rfl)
theorem dX7_ask_93 : decode cX7_ask 93 = .ok (.goto 4, 3) := dk_167 0 4 (dk_at dksX7_ask_4 0 rfl rfl)
theorem dX7_ask_96 : decode cX7_ask 96 = .ok (.iconst 0, 1) := dk_3 (dk_at dksX7_ask_4 3 rfl rfl)
theorem dX7_ask_97 : decode cX7_ask 97 = .ok (.iadd, 1) := dk_96 (dk_at dksX7_ask_4 4 rfl rfl)
theorem dX7_ask_98 : decode cX7_ask 98 = .ok (.istore 5, 2) := dk_54 5 (dk_at dksX7_ask_4 5 rfl rfl)
theorem dX7_ask_100 : decode cX7_ask 100 = .ok (.iinc 6 1, 3) := dk_132 6 1 (dk_at dksX7_ask_4 7 rfl rfl)
theorem dX7_ask_103 : decode cX7_ask 103 = .ok (.goto (-48), 3) := dk_167 255 208 (dk_at dksX7_ask_4 10 rfl rfl)
theorem dX7_ask_106 : decode cX7_ask 106 = .ok (.iload 5, 2) := dk_21 5 (dk_at dksX7_ask_4 13 rfl rfl)
theorem dX7_ask_108 : decode cX7_ask 108 = .ok (.iload_n 1, 1) := dk_27 (dk_at dksX7_ask_4 15 rfl rfl)
theorem dX7_ask_109 : decode cX7_ask 109 = .ok (.iload 5, 2) := dk_21 5 (dk_at dksX7_ask_4 16 rfl rfl)
theorem dX7_ask_111 : decode cX7_ask 111 = .ok (.isub, 1) := dk_100 (dk_at dksX7_ask_4 18 rfl rfl)
theorem dX7_ask_112 : decode cX7_ask 112 = .ok (.invokestatic 269, 3) := dk_184 1 13 (dk_at dksX7_ask_4 19 rfl rfl)
theorem dX7_ask_115 : decode cX7_ask 115 = .ok (.iload_n 3, 1) := dk_29 (dk_at dksX7_ask_4 22 rfl rfl)
theorem dX7_ask_116 : decode cX7_ask 116 = .ok (.if_icmp .lt 6, 3) := dk_161 0 6 (dk_at dksX7_ask_5 0 rfl rfl)
theorem dX7_ask_119 : decode cX7_ask 119 = .ok (.goto 16, 3) := dk_167 0 16 (dk_at dksX7_ask_5 3 rfl rfl)
theorem dX7_ask_122 : decode cX7_ask 122 = .ok (.iload 5, 2) := dk_21 5 (dk_at dksX7_ask_5 6 rfl rfl)
theorem dX7_ask_124 : decode cX7_ask 124 = .ok (.iload_n 1, 1) := dk_27 (dk_at dksX7_ask_5 8 rfl rfl)
theorem dX7_ask_125 : decode cX7_ask 125 = .ok (.iload 5, 2) := dk_21 5 (dk_at dksX7_ask_5 9 rfl rfl)
theorem dX7_ask_127 : decode cX7_ask 127 = .ok (.isub, 1) := dk_100 (dk_at dksX7_ask_5 11 rfl rfl)
theorem dX7_ask_128 : decode cX7_ask 128 = .ok (.invokestatic 269, 3) := dk_184 1 13 (dk_at dksX7_ask_5 12 rfl rfl)
theorem dX7_ask_131 : decode cX7_ask 131 = .ok (.istore_n 3, 1) := dk_62 (dk_at dksX7_ask_5 15 rfl rfl)
theorem dX7_ask_132 : decode cX7_ask 132 = .ok (.iload 4, 2) := dk_21 4 (dk_at dksX7_ask_5 16 rfl rfl)
theorem dX7_ask_134 : decode cX7_ask 134 = .ok (.istore_n 2, 1) := dk_61 (dk_at dksX7_ask_5 18 rfl rfl)
theorem dX7_ask_135 : decode cX7_ask 135 = .ok (.iinc 4 1, 3) := dk_132 4 1 (dk_at dksX7_ask_5 19 rfl rfl)
theorem dX7_ask_138 : decode cX7_ask 138 = .ok (.goto (-101), 3) := dk_167 255 155 (dk_at dksX7_ask_6 0 rfl rfl)
theorem dX7_ask_141 : decode cX7_ask 141 = .ok (.iload_n 2, 1) := dk_28 (dk_at dksX7_ask_6 3 rfl rfl)
theorem dX7_ask_142 : decode cX7_ask 142 = .ok (.ireturn, 1) := dk_172 (dk_at dksX7_ask_6 4 rfl rfl)
abbrev cX7_forged : ByteArray := prog_20_method_99_code
def yX7_forged : MethodName := ⟨RX7, "forged", "(I)Z"⟩
def dkwX7_forged_3 : List UInt8 := [27, 16, 9, 182, 0, 52, 4, 96, 159, 0, 7, 4, 167, 0, 4, 3, 172]
abbrev dktX7_forged_3 : List UInt8 := dkwX7_forged_3 ++ []
def dkwX7_forged_2 : List UInt8 := [180, 0, 45, 154, 0, 36, 42, 42, 27, 3, 182, 0, 52, 42, 27, 16, 7, 182, 0, 52, 182, 1, 103, 42]
abbrev dktX7_forged_2 : List UInt8 := dkwX7_forged_2 ++ dktX7_forged_3
def dkwX7_forged_1 : List UInt8 := [3, 172, 42, 42, 27, 16, 9, 182, 0, 52, 2, 160, 0, 7, 5, 167, 0, 4, 3, 181, 0, 45, 42]
abbrev dktX7_forged_1 : List UInt8 := dkwX7_forged_1 ++ dktX7_forged_2
def dkwX7_forged_0 : List UInt8 := [42, 42, 27, 182, 1, 69, 154, 0, 7, 4, 167, 0, 4, 3, 181, 0, 45, 42, 180, 0, 45, 158, 0, 5]
abbrev dktX7_forged_0 : List UInt8 := dkwX7_forged_0 ++ dktX7_forged_1
theorem dksX7_forged_0 : cX7_forged.data.toList.drop 0 = dktX7_forged_0 := by decide +kernel
theorem dksX7_forged_1 : cX7_forged.data.toList.drop 24 = dktX7_forged_1 := dk_seg dksX7_forged_0 24 rfl rfl
theorem dksX7_forged_2 : cX7_forged.data.toList.drop 47 = dktX7_forged_2 := dk_seg dksX7_forged_1 23 rfl rfl
theorem dksX7_forged_3 : cX7_forged.data.toList.drop 71 = dktX7_forged_3 := dk_seg dksX7_forged_2 24 rfl rfl
theorem dX7_forged_0 : decode cX7_forged 0 = .ok (.aload_n 0, 1) := dk_42 (dk_at dksX7_forged_0 0 rfl rfl)
theorem dX7_forged_1 : decode cX7_forged 1 = .ok (.aload_n 0, 1) := dk_42 (dk_at dksX7_forged_0 1 rfl rfl)
theorem dX7_forged_2 : decode cX7_forged 2 = .ok (.iload_n 1, 1) := dk_27 (dk_at dksX7_forged_0 2 rfl rfl)
theorem dX7_forged_3 : decode cX7_forged 3 = .ok (.invokevirtual 325, 3) := dk_182 1 69 (dk_at dksX7_forged_0 3 rfl rfl)
theorem dX7_forged_6 : decode cX7_forged 6 = .ok (.ifCond .ne 7, 3) := dk_154 0 7 (dk_at dksX7_forged_0 6 rfl rfl)
theorem dX7_forged_9 : decode cX7_forged 9 = .ok (.iconst 1, 1) := dk_4 (dk_at dksX7_forged_0 9 rfl rfl)
theorem dX7_forged_10 : decode cX7_forged 10 = .ok (.goto 4, 3) := dk_167 0 4 (dk_at dksX7_forged_0 10 rfl rfl)
theorem dX7_forged_13 : decode cX7_forged 13 = .ok (.iconst 0, 1) := dk_3 (dk_at dksX7_forged_0 13 rfl rfl)
theorem dX7_forged_14 : decode cX7_forged 14 = .ok (.putfield 45, 3) := dk_181 0 45 (dk_at dksX7_forged_0 14 rfl rfl)
theorem dX7_forged_17 : decode cX7_forged 17 = .ok (.aload_n 0, 1) := dk_42 (dk_at dksX7_forged_0 17 rfl rfl)
theorem dX7_forged_18 : decode cX7_forged 18 = .ok (.getfield 45, 3) := dk_180 0 45 (dk_at dksX7_forged_0 18 rfl rfl)
theorem dX7_forged_21 : decode cX7_forged 21 = .ok (.ifCond .le 5, 3) := dk_158 0 5 (dk_at dksX7_forged_0 21 rfl rfl)
theorem dX7_forged_24 : decode cX7_forged 24 = .ok (.iconst 0, 1) := dk_3 (dk_at dksX7_forged_1 0 rfl rfl)
theorem dX7_forged_25 : decode cX7_forged 25 = .ok (.ireturn, 1) := dk_172 (dk_at dksX7_forged_1 1 rfl rfl)
theorem dX7_forged_26 : decode cX7_forged 26 = .ok (.aload_n 0, 1) := dk_42 (dk_at dksX7_forged_1 2 rfl rfl)
theorem dX7_forged_27 : decode cX7_forged 27 = .ok (.aload_n 0, 1) := dk_42 (dk_at dksX7_forged_1 3 rfl rfl)
theorem dX7_forged_28 : decode cX7_forged 28 = .ok (.iload_n 1, 1) := dk_27 (dk_at dksX7_forged_1 4 rfl rfl)
theorem dX7_forged_29 : decode cX7_forged 29 = .ok (.bipush 9, 2) := dk_16 9 (dk_at dksX7_forged_1 5 rfl rfl)
theorem dX7_forged_31 : decode cX7_forged 31 = .ok (.invokevirtual 52, 3) := dk_182 0 52 (dk_at dksX7_forged_1 7 rfl rfl)
theorem dX7_forged_34 : decode cX7_forged 34 = .ok (.iconst (-1), 1) := dk_2 (dk_at dksX7_forged_1 10 rfl rfl)
theorem dX7_forged_35 : decode cX7_forged 35 = .ok (.if_icmp .ne 7, 3) := dk_160 0 7 (dk_at dksX7_forged_1 11 rfl rfl)
theorem dX7_forged_38 : decode cX7_forged 38 = .ok (.iconst 2, 1) := dk_5 (dk_at dksX7_forged_1 14 rfl rfl)
theorem dX7_forged_39 : decode cX7_forged 39 = .ok (.goto 4, 3) := dk_167 0 4 (dk_at dksX7_forged_1 15 rfl rfl)
theorem dX7_forged_42 : decode cX7_forged 42 = .ok (.iconst 0, 1) := dk_3 (dk_at dksX7_forged_1 18 rfl rfl)
theorem dX7_forged_43 : decode cX7_forged 43 = .ok (.putfield 45, 3) := dk_181 0 45 (dk_at dksX7_forged_1 19 rfl rfl)
theorem dX7_forged_46 : decode cX7_forged 46 = .ok (.aload_n 0, 1) := dk_42 (dk_at dksX7_forged_1 22 rfl rfl)
theorem dX7_forged_47 : decode cX7_forged 47 = .ok (.getfield 45, 3) := dk_180 0 45 (dk_at dksX7_forged_2 0 rfl rfl)
theorem dX7_forged_50 : decode cX7_forged 50 = .ok (.ifCond .ne 36, 3) := dk_154 0 36 (dk_at dksX7_forged_2 3 rfl rfl)
theorem dX7_forged_53 : decode cX7_forged 53 = .ok (.aload_n 0, 1) := dk_42 (dk_at dksX7_forged_2 6 rfl rfl)
theorem dX7_forged_54 : decode cX7_forged 54 = .ok (.aload_n 0, 1) := dk_42 (dk_at dksX7_forged_2 7 rfl rfl)
theorem dX7_forged_55 : decode cX7_forged 55 = .ok (.iload_n 1, 1) := dk_27 (dk_at dksX7_forged_2 8 rfl rfl)
theorem dX7_forged_56 : decode cX7_forged 56 = .ok (.iconst 0, 1) := dk_3 (dk_at dksX7_forged_2 9 rfl rfl)
theorem dX7_forged_57 : decode cX7_forged 57 = .ok (.invokevirtual 52, 3) := dk_182 0 52 (dk_at dksX7_forged_2 10 rfl rfl)
theorem dX7_forged_60 : decode cX7_forged 60 = .ok (.aload_n 0, 1) := dk_42 (dk_at dksX7_forged_2 13 rfl rfl)
theorem dX7_forged_61 : decode cX7_forged 61 = .ok (.iload_n 1, 1) := dk_27 (dk_at dksX7_forged_2 14 rfl rfl)
theorem dX7_forged_62 : decode cX7_forged 62 = .ok (.bipush 7, 2) := dk_16 7 (dk_at dksX7_forged_2 15 rfl rfl)
theorem dX7_forged_64 : decode cX7_forged 64 = .ok (.invokevirtual 52, 3) := dk_182 0 52 (dk_at dksX7_forged_2 17 rfl rfl)
theorem dX7_forged_67 : decode cX7_forged 67 = .ok (.invokevirtual 359, 3) := dk_182 1 103 (dk_at dksX7_forged_2 20 rfl rfl)
theorem dX7_forged_70 : decode cX7_forged 70 = .ok (.aload_n 0, 1) := dk_42 (dk_at dksX7_forged_2 23 rfl rfl)
theorem dX7_forged_71 : decode cX7_forged 71 = .ok (.iload_n 1, 1) := dk_27 (dk_at dksX7_forged_3 0 rfl rfl)
theorem dX7_forged_72 : decode cX7_forged 72 = .ok (.bipush 9, 2) := dk_16 9 (dk_at dksX7_forged_3 1 rfl rfl)
theorem dX7_forged_74 : decode cX7_forged 74 = .ok (.invokevirtual 52, 3) := dk_182 0 52 (dk_at dksX7_forged_3 3 rfl rfl)
theorem dX7_forged_77 : decode cX7_forged 77 = .ok (.iconst 1, 1) := dk_4 (dk_at dksX7_forged_3 6 rfl rfl)
theorem dX7_forged_78 : decode cX7_forged 78 = .ok (.iadd, 1) := dk_96 (dk_at dksX7_forged_3 7 rfl rfl)
theorem dX7_forged_79 : decode cX7_forged 79 = .ok (.if_icmp .eq 7, 3) := dk_159 0 7 (dk_at dksX7_forged_3 8 rfl rfl)
theorem dX7_forged_82 : decode cX7_forged 82 = .ok (.iconst 1, 1) := dk_4 (dk_at dksX7_forged_3 11 rfl rfl)
theorem dX7_forged_83 : decode cX7_forged 83 = .ok (.goto 4, 3) := dk_167 0 4 (dk_at dksX7_forged_3 12 rfl rfl)
theorem dX7_forged_86 : decode cX7_forged 86 = .ok (.iconst 0, 1) := dk_3 (dk_at dksX7_forged_3 15 rfl rfl)
theorem dX7_forged_87 : decode cX7_forged 87 = .ok (.ireturn, 1) := dk_172 (dk_at dksX7_forged_3 16 rfl rfl)
abbrev cX7_apart : ByteArray := prog_20_method_101_code
def yX7_apart : MethodName := ⟨RX7, "apart", "()I"⟩
def dkwX7_apart_5 : List UInt8 := [132, 4, 1, 167, 255, 176, 29, 153, 0, 5, 28, 60, 132, 2, 1, 167, 255, 133, 27, 172]
abbrev dktX7_apart_5 : List UInt8 := dkwX7_apart_5 ++ []
def dkwX7_apart_4 : List UInt8 := [21, 4, 21, 5, 182, 1, 116, 153, 0, 7, 4, 167, 0, 4, 3, 62, 132, 5, 1, 167, 255, 203]
abbrev dktX7_apart_4 : List UInt8 := dkwX7_apart_4 ++ dktX7_apart_5
def dkwX7_apart_3 : List UInt8 := [29, 153, 0, 44, 42, 21, 4, 5, 182, 0, 67, 42, 21, 5, 5, 182, 0, 67, 159, 0, 15, 42, 28]
abbrev dktX7_apart_3 : List UInt8 := dkwX7_apart_3 ++ dktX7_apart_4
def dkwX7_apart_2 : List UInt8 := [162, 0, 75, 29, 153, 0, 71, 21, 4, 4, 96, 54, 5, 21, 5, 42, 180, 0, 7, 7, 46, 162, 0, 48]
abbrev dktX7_apart_2 : List UInt8 := dkwX7_apart_2 ++ dktX7_apart_3
def dkwX7_apart_1 : List UInt8 := [27, 184, 1, 113, 162, 0, 7, 4, 167, 0, 4, 3, 62, 3, 54, 4, 21, 4, 42, 180, 0, 7, 7, 46]
abbrev dktX7_apart_1 : List UInt8 := dkwX7_apart_1 ++ dktX7_apart_2
def dkwX7_apart_0 : List UInt8 := [42, 3, 181, 0, 45, 2, 60, 3, 61, 28, 16, 16, 162, 0, 123, 27, 2, 159, 0, 14, 28, 184, 1, 113]
abbrev dktX7_apart_0 : List UInt8 := dkwX7_apart_0 ++ dktX7_apart_1
theorem dksX7_apart_0 : cX7_apart.data.toList.drop 0 = dktX7_apart_0 := by decide +kernel
theorem dksX7_apart_1 : cX7_apart.data.toList.drop 24 = dktX7_apart_1 := dk_seg dksX7_apart_0 24 rfl rfl
theorem dksX7_apart_2 : cX7_apart.data.toList.drop 48 = dktX7_apart_2 := dk_seg dksX7_apart_1 24 rfl rfl
theorem dksX7_apart_3 : cX7_apart.data.toList.drop 72 = dktX7_apart_3 := dk_seg dksX7_apart_2 24 rfl rfl
theorem dksX7_apart_4 : cX7_apart.data.toList.drop 95 = dktX7_apart_4 := dk_seg dksX7_apart_3 23 rfl rfl
theorem dksX7_apart_5 : cX7_apart.data.toList.drop 117 = dktX7_apart_5 := dk_seg dksX7_apart_4 22 rfl rfl
theorem dX7_apart_0 : decode cX7_apart 0 = .ok (.aload_n 0, 1) := dk_42 (dk_at dksX7_apart_0 0 rfl rfl)
theorem dX7_apart_1 : decode cX7_apart 1 = .ok (.iconst 0, 1) := dk_3 (dk_at dksX7_apart_0 1 rfl rfl)
theorem dX7_apart_2 : decode cX7_apart 2 = .ok (.putfield 45, 3) := dk_181 0 45 (dk_at dksX7_apart_0 2 rfl rfl)
theorem dX7_apart_5 : decode cX7_apart 5 = .ok (.iconst (-1), 1) := dk_2 (dk_at dksX7_apart_0 5 rfl rfl)
theorem dX7_apart_6 : decode cX7_apart 6 = .ok (.istore_n 1, 1) := dk_60 (dk_at dksX7_apart_0 6 rfl rfl)
theorem dX7_apart_7 : decode cX7_apart 7 = .ok (.iconst 0, 1) := dk_3 (dk_at dksX7_apart_0 7 rfl rfl)
theorem dX7_apart_8 : decode cX7_apart 8 = .ok (.istore_n 2, 1) := dk_61 (dk_at dksX7_apart_0 8 rfl rfl)
theorem dX7_apart_9 : decode cX7_apart 9 = .ok (.iload_n 2, 1) := dk_28 (dk_at dksX7_apart_0 9 rfl rfl)
theorem dX7_apart_10 : decode cX7_apart 10 = .ok (.bipush 16, 2) := dk_16 16 (dk_at dksX7_apart_0 10 rfl rfl)
theorem dX7_apart_12 : decode cX7_apart 12 = .ok (.if_icmp .ge 123, 3) := dk_162 0 123 (dk_at dksX7_apart_0 12 rfl rfl)
theorem dX7_apart_15 : decode cX7_apart 15 = .ok (.iload_n 1, 1) := dk_27 (dk_at dksX7_apart_0 15 rfl rfl)
theorem dX7_apart_16 : decode cX7_apart 16 = .ok (.iconst (-1), 1) := dk_2 (dk_at dksX7_apart_0 16 rfl rfl)
theorem dX7_apart_17 : decode cX7_apart 17 = .ok (.if_icmp .eq 14, 3) := dk_159 0 14 (dk_at dksX7_apart_0 17 rfl rfl)
theorem dX7_apart_20 : decode cX7_apart 20 = .ok (.iload_n 2, 1) := dk_28 (dk_at dksX7_apart_0 20 rfl rfl)
theorem dX7_apart_21 : decode cX7_apart 21 = .ok (.invokestatic 369, 3) := dk_184 1 113 (dk_at dksX7_apart_0 21 rfl rfl)
theorem dX7_apart_24 : decode cX7_apart 24 = .ok (.iload_n 1, 1) := dk_27 (dk_at dksX7_apart_1 0 rfl rfl)
theorem dX7_apart_25 : decode cX7_apart 25 = .ok (.invokestatic 369, 3) := dk_184 1 113 (dk_at dksX7_apart_1 1 rfl rfl)
theorem dX7_apart_28 : decode cX7_apart 28 = .ok (.if_icmp .ge 7, 3) := dk_162 0 7 (dk_at dksX7_apart_1 4 rfl rfl)
theorem dX7_apart_31 : decode cX7_apart 31 = .ok (.iconst 1, 1) := dk_4 (dk_at dksX7_apart_1 7 rfl rfl)
theorem dX7_apart_32 : decode cX7_apart 32 = .ok (.goto 4, 3) := dk_167 0 4 (dk_at dksX7_apart_1 8 rfl rfl)
theorem dX7_apart_35 : decode cX7_apart 35 = .ok (.iconst 0, 1) := dk_3 (dk_at dksX7_apart_1 11 rfl rfl)
theorem dX7_apart_36 : decode cX7_apart 36 = .ok (.istore_n 3, 1) := dk_62 (dk_at dksX7_apart_1 12 rfl rfl)
theorem dX7_apart_37 : decode cX7_apart 37 = .ok (.iconst 0, 1) := dk_3 (dk_at dksX7_apart_1 13 rfl rfl)
theorem dX7_apart_38 : decode cX7_apart 38 = .ok (.istore 4, 2) := dk_54 4 (dk_at dksX7_apart_1 14 rfl rfl)
theorem dX7_apart_40 : decode cX7_apart 40 = .ok (.iload 4, 2) := dk_21 4 (dk_at dksX7_apart_1 16 rfl rfl)
theorem dX7_apart_42 : decode cX7_apart 42 = .ok (.aload_n 0, 1) := dk_42 (dk_at dksX7_apart_1 18 rfl rfl)
theorem dX7_apart_43 : decode cX7_apart 43 = .ok (.getfield 7, 3) := dk_180 0 7 (dk_at dksX7_apart_1 19 rfl rfl)
theorem dX7_apart_46 : decode cX7_apart 46 = .ok (.iconst 4, 1) := dk_7 (dk_at dksX7_apart_1 22 rfl rfl)
theorem dX7_apart_47 : decode cX7_apart 47 = .ok (.iaload, 1) := dk_46 (dk_at dksX7_apart_1 23 rfl rfl)
theorem dX7_apart_48 : decode cX7_apart 48 = .ok (.if_icmp .ge 75, 3) := dk_162 0 75 (dk_at dksX7_apart_2 0 rfl rfl)
theorem dX7_apart_51 : decode cX7_apart 51 = .ok (.iload_n 3, 1) := dk_29 (dk_at dksX7_apart_2 3 rfl rfl)
theorem dX7_apart_52 : decode cX7_apart 52 = .ok (.ifCond .eq 71, 3) := dk_153 0 71 (dk_at dksX7_apart_2 4 rfl rfl)
theorem dX7_apart_55 : decode cX7_apart 55 = .ok (.iload 4, 2) := dk_21 4 (dk_at dksX7_apart_2 7 rfl rfl)
theorem dX7_apart_57 : decode cX7_apart 57 = .ok (.iconst 1, 1) := dk_4 (dk_at dksX7_apart_2 9 rfl rfl)
theorem dX7_apart_58 : decode cX7_apart 58 = .ok (.iadd, 1) := dk_96 (dk_at dksX7_apart_2 10 rfl rfl)
theorem dX7_apart_59 : decode cX7_apart 59 = .ok (.istore 5, 2) := dk_54 5 (dk_at dksX7_apart_2 11 rfl rfl)
theorem dX7_apart_61 : decode cX7_apart 61 = .ok (.iload 5, 2) := dk_21 5 (dk_at dksX7_apart_2 13 rfl rfl)
theorem dX7_apart_63 : decode cX7_apart 63 = .ok (.aload_n 0, 1) := dk_42 (dk_at dksX7_apart_2 15 rfl rfl)
theorem dX7_apart_64 : decode cX7_apart 64 = .ok (.getfield 7, 3) := dk_180 0 7 (dk_at dksX7_apart_2 16 rfl rfl)
theorem dX7_apart_67 : decode cX7_apart 67 = .ok (.iconst 4, 1) := dk_7 (dk_at dksX7_apart_2 19 rfl rfl)
theorem dX7_apart_68 : decode cX7_apart 68 = .ok (.iaload, 1) := dk_46 (dk_at dksX7_apart_2 20 rfl rfl)
theorem dX7_apart_69 : decode cX7_apart 69 = .ok (.if_icmp .ge 48, 3) := dk_162 0 48 (dk_at dksX7_apart_2 21 rfl rfl)
theorem dX7_apart_72 : decode cX7_apart 72 = .ok (.iload_n 3, 1) := dk_29 (dk_at dksX7_apart_3 0 rfl rfl)
theorem dX7_apart_73 : decode cX7_apart 73 = .ok (.ifCond .eq 44, 3) := dk_153 0 44 (dk_at dksX7_apart_3 1 rfl rfl)
theorem dX7_apart_76 : decode cX7_apart 76 = .ok (.aload_n 0, 1) := dk_42 (dk_at dksX7_apart_3 4 rfl rfl)
theorem dX7_apart_77 : decode cX7_apart 77 = .ok (.iload 4, 2) := dk_21 4 (dk_at dksX7_apart_3 5 rfl rfl)
theorem dX7_apart_79 : decode cX7_apart 79 = .ok (.iconst 2, 1) := dk_5 (dk_at dksX7_apart_3 7 rfl rfl)
theorem dX7_apart_80 : decode cX7_apart 80 = .ok (.invokevirtual 67, 3) := dk_182 0 67 (dk_at dksX7_apart_3 8 rfl rfl)
theorem dX7_apart_83 : decode cX7_apart 83 = .ok (.aload_n 0, 1) := dk_42 (dk_at dksX7_apart_3 11 rfl rfl)
theorem dX7_apart_84 : decode cX7_apart 84 = .ok (.iload 5, 2) := dk_21 5 (dk_at dksX7_apart_3 12 rfl rfl)
theorem dX7_apart_86 : decode cX7_apart 86 = .ok (.iconst 2, 1) := dk_5 (dk_at dksX7_apart_3 14 rfl rfl)
theorem dX7_apart_87 : decode cX7_apart 87 = .ok (.invokevirtual 67, 3) := dk_182 0 67 (dk_at dksX7_apart_3 15 rfl rfl)
theorem dX7_apart_90 : decode cX7_apart 90 = .ok (.if_icmp .eq 15, 3) := dk_159 0 15 (dk_at dksX7_apart_3 18 rfl rfl)
theorem dX7_apart_93 : decode cX7_apart 93 = .ok (.aload_n 0, 1) := dk_42 (dk_at dksX7_apart_3 21 rfl rfl)
theorem dX7_apart_94 : decode cX7_apart 94 = .ok (.iload_n 2, 1) := dk_28 (dk_at dksX7_apart_3 22 rfl rfl)
theorem dX7_apart_95 : decode cX7_apart 95 = .ok (.iload 4, 2) := dk_21 4 (dk_at dksX7_apart_4 0 rfl rfl)
theorem dX7_apart_97 : decode cX7_apart 97 = .ok (.iload 5, 2) := dk_21 5 (dk_at dksX7_apart_4 2 rfl rfl)
theorem dX7_apart_99 : decode cX7_apart 99 = .ok (.invokevirtual 372, 3) := dk_182 1 116 (dk_at dksX7_apart_4 4 rfl rfl)
theorem dX7_apart_102 : decode cX7_apart 102 = .ok (.ifCond .eq 7, 3) := dk_153 0 7 (dk_at dksX7_apart_4 7 rfl rfl)
theorem dX7_apart_105 : decode cX7_apart 105 = .ok (.iconst 1, 1) := dk_4 (dk_at dksX7_apart_4 10 rfl rfl)
theorem dX7_apart_106 : decode cX7_apart 106 = .ok (.goto 4, 3) := dk_167 0 4 (dk_at dksX7_apart_4 11 rfl rfl)
theorem dX7_apart_109 : decode cX7_apart 109 = .ok (.iconst 0, 1) := dk_3 (dk_at dksX7_apart_4 14 rfl rfl)
theorem dX7_apart_110 : decode cX7_apart 110 = .ok (.istore_n 3, 1) := dk_62 (dk_at dksX7_apart_4 15 rfl rfl)
theorem dX7_apart_111 : decode cX7_apart 111 = .ok (.iinc 5 1, 3) := dk_132 5 1 (dk_at dksX7_apart_4 16 rfl rfl)
theorem dX7_apart_114 : decode cX7_apart 114 = .ok (.goto (-53), 3) := dk_167 255 203 (dk_at dksX7_apart_4 19 rfl rfl)
theorem dX7_apart_117 : decode cX7_apart 117 = .ok (.iinc 4 1, 3) := dk_132 4 1 (dk_at dksX7_apart_5 0 rfl rfl)
theorem dX7_apart_120 : decode cX7_apart 120 = .ok (.goto (-80), 3) := dk_167 255 176 (dk_at dksX7_apart_5 3 rfl rfl)
theorem dX7_apart_123 : decode cX7_apart 123 = .ok (.iload_n 3, 1) := dk_29 (dk_at dksX7_apart_5 6 rfl rfl)
theorem dX7_apart_124 : decode cX7_apart 124 = .ok (.ifCond .eq 5, 3) := dk_153 0 5 (dk_at dksX7_apart_5 7 rfl rfl)
theorem dX7_apart_127 : decode cX7_apart 127 = .ok (.iload_n 2, 1) := dk_28 (dk_at dksX7_apart_5 10 rfl rfl)
theorem dX7_apart_128 : decode cX7_apart 128 = .ok (.istore_n 1, 1) := dk_60 (dk_at dksX7_apart_5 11 rfl rfl)
theorem dX7_apart_129 : decode cX7_apart 129 = .ok (.iinc 2 1, 3) := dk_132 2 1 (dk_at dksX7_apart_5 12 rfl rfl)
theorem dX7_apart_132 : decode cX7_apart 132 = .ok (.goto (-123), 3) := dk_167 255 133 (dk_at dksX7_apart_5 15 rfl rfl)
theorem dX7_apart_135 : decode cX7_apart 135 = .ok (.iload_n 1, 1) := dk_27 (dk_at dksX7_apart_5 18 rfl rfl)
theorem dX7_apart_136 : decode cX7_apart 136 = .ok (.ireturn, 1) := dk_172 (dk_at dksX7_apart_5 19 rfl rfl)
abbrev cX7_bits : ByteArray := prog_20_method_7_code
def yX7_bits : MethodName := ⟨RX7, "bits", "(I)I"⟩
def dkwX7_bits_1 : List UInt8 := [27, 172]
abbrev dktX7_bits_1 : List UInt8 := dkwX7_bits_1 ++ []
def dkwX7_bits_0 : List UInt8 := [3, 60, 3, 61, 28, 16, 31, 162, 0, 17, 27, 26, 28, 122, 4, 126, 96, 60, 132, 2, 1, 167, 255, 239]
abbrev dktX7_bits_0 : List UInt8 := dkwX7_bits_0 ++ dktX7_bits_1
theorem dksX7_bits_0 : cX7_bits.data.toList.drop 0 = dktX7_bits_0 := by decide +kernel
theorem dksX7_bits_1 : cX7_bits.data.toList.drop 24 = dktX7_bits_1 := dk_seg dksX7_bits_0 24 rfl rfl
theorem dX7_bits_0 : decode cX7_bits 0 = .ok (.iconst 0, 1) := dk_3 (dk_at dksX7_bits_0 0 rfl rfl)
theorem dX7_bits_1 : decode cX7_bits 1 = .ok (.istore_n 1, 1) := dk_60 (dk_at dksX7_bits_0 1 rfl rfl)
theorem dX7_bits_2 : decode cX7_bits 2 = .ok (.iconst 0, 1) := dk_3 (dk_at dksX7_bits_0 2 rfl rfl)
theorem dX7_bits_3 : decode cX7_bits 3 = .ok (.istore_n 2, 1) := dk_61 (dk_at dksX7_bits_0 3 rfl rfl)
theorem dX7_bits_4 : decode cX7_bits 4 = .ok (.iload_n 2, 1) := dk_28 (dk_at dksX7_bits_0 4 rfl rfl)
theorem dX7_bits_5 : decode cX7_bits 5 = .ok (.bipush 31, 2) := dk_16 31 (dk_at dksX7_bits_0 5 rfl rfl)
theorem dX7_bits_7 : decode cX7_bits 7 = .ok (.if_icmp .ge 17, 3) := dk_162 0 17 (dk_at dksX7_bits_0 7 rfl rfl)
theorem dX7_bits_10 : decode cX7_bits 10 = .ok (.iload_n 1, 1) := dk_27 (dk_at dksX7_bits_0 10 rfl rfl)
theorem dX7_bits_11 : decode cX7_bits 11 = .ok (.iload_n 0, 1) := dk_26 (dk_at dksX7_bits_0 11 rfl rfl)
theorem dX7_bits_12 : decode cX7_bits 12 = .ok (.iload_n 2, 1) := dk_28 (dk_at dksX7_bits_0 12 rfl rfl)
theorem dX7_bits_13 : decode cX7_bits 13 = .ok (.ishr, 1) := dk_122 (dk_at dksX7_bits_0 13 rfl rfl)
theorem dX7_bits_14 : decode cX7_bits 14 = .ok (.iconst 1, 1) := dk_4 (dk_at dksX7_bits_0 14 rfl rfl)
theorem dX7_bits_15 : decode cX7_bits 15 = .ok (.iand, 1) := dk_126 (dk_at dksX7_bits_0 15 rfl rfl)
theorem dX7_bits_16 : decode cX7_bits 16 = .ok (.iadd, 1) := dk_96 (dk_at dksX7_bits_0 16 rfl rfl)
theorem dX7_bits_17 : decode cX7_bits 17 = .ok (.istore_n 1, 1) := dk_60 (dk_at dksX7_bits_0 17 rfl rfl)
theorem dX7_bits_18 : decode cX7_bits 18 = .ok (.iinc 2 1, 3) := dk_132 2 1 (dk_at dksX7_bits_0 18 rfl rfl)
theorem dX7_bits_21 : decode cX7_bits 21 = .ok (.goto (-17), 3) := dk_167 255 239 (dk_at dksX7_bits_0 21 rfl rfl)
theorem dX7_bits_24 : decode cX7_bits 24 = .ok (.iload_n 1, 1) := dk_27 (dk_at dksX7_bits_1 0 rfl rfl)
theorem dX7_bits_25 : decode cX7_bits 25 = .ok (.ireturn, 1) := dk_172 (dk_at dksX7_bits_1 1 rfl rfl)
abbrev cX7_areApart : ByteArray := prog_20_method_100_code
def yX7_areApart : MethodName := ⟨RX7, "areApart", "(III)Z"⟩
def dkwX7_areApart_2 : List UInt8 := [3, 54, 4, 132, 5, 1, 167, 255, 209, 21, 4, 172]
abbrev dktX7_areApart_2 : List UInt8 := dkwX7_areApart_2 ++ []
def dkwX7_areApart_1 : List UInt8 := [153, 0, 24, 42, 28, 21, 5, 182, 1, 10, 42, 29, 21, 5, 182, 1, 10, 159, 0, 7, 4, 167, 0, 4]
abbrev dktX7_areApart_1 : List UInt8 := dkwX7_areApart_1 ++ dktX7_areApart_2
def dkwX7_areApart_0 : List UInt8 := [3, 54, 4, 3, 54, 5, 21, 5, 7, 162, 0, 47, 21, 4, 154, 0, 29, 27, 21, 5, 184, 0, 56]
abbrev dktX7_areApart_0 : List UInt8 := dkwX7_areApart_0 ++ dktX7_areApart_1
theorem dksX7_areApart_0 : cX7_areApart.data.toList.drop 0 = dktX7_areApart_0 := by decide +kernel
theorem dksX7_areApart_1 : cX7_areApart.data.toList.drop 23 = dktX7_areApart_1 := dk_seg dksX7_areApart_0 23 rfl rfl
theorem dksX7_areApart_2 : cX7_areApart.data.toList.drop 47 = dktX7_areApart_2 := dk_seg dksX7_areApart_1 24 rfl rfl
theorem dX7_areApart_0 : decode cX7_areApart 0 = .ok (.iconst 0, 1) := dk_3 (dk_at dksX7_areApart_0 0 rfl rfl)
theorem dX7_areApart_1 : decode cX7_areApart 1 = .ok (.istore 4, 2) := dk_54 4 (dk_at dksX7_areApart_0 1 rfl rfl)
theorem dX7_areApart_3 : decode cX7_areApart 3 = .ok (.iconst 0, 1) := dk_3 (dk_at dksX7_areApart_0 3 rfl rfl)
theorem dX7_areApart_4 : decode cX7_areApart 4 = .ok (.istore 5, 2) := dk_54 5 (dk_at dksX7_areApart_0 4 rfl rfl)
theorem dX7_areApart_6 : decode cX7_areApart 6 = .ok (.iload 5, 2) := dk_21 5 (dk_at dksX7_areApart_0 6 rfl rfl)
theorem dX7_areApart_8 : decode cX7_areApart 8 = .ok (.iconst 4, 1) := dk_7 (dk_at dksX7_areApart_0 8 rfl rfl)
theorem dX7_areApart_9 : decode cX7_areApart 9 = .ok (.if_icmp .ge 47, 3) := dk_162 0 47 (dk_at dksX7_areApart_0 9 rfl rfl)
theorem dX7_areApart_12 : decode cX7_areApart 12 = .ok (.iload 4, 2) := dk_21 4 (dk_at dksX7_areApart_0 12 rfl rfl)
theorem dX7_areApart_14 : decode cX7_areApart 14 = .ok (.ifCond .ne 29, 3) := dk_154 0 29 (dk_at dksX7_areApart_0 14 rfl rfl)
theorem dX7_areApart_17 : decode cX7_areApart 17 = .ok (.iload_n 1, 1) := dk_27 (dk_at dksX7_areApart_0 17 rfl rfl)
theorem dX7_areApart_18 : decode cX7_areApart 18 = .ok (.iload 5, 2) := dk_21 5 (dk_at dksX7_areApart_0 18 rfl rfl)
theorem dX7_areApart_20 : decode cX7_areApart 20 = .ok (.invokestatic 56, 3) := dk_184 0 56 (dk_at dksX7_areApart_0 20 rfl rfl)
theorem dX7_areApart_23 : decode cX7_areApart 23 = .ok (.ifCond .eq 24, 3) := dk_153 0 24 (dk_at dksX7_areApart_1 0 rfl rfl)
theorem dX7_areApart_26 : decode cX7_areApart 26 = .ok (.aload_n 0, 1) := dk_42 (dk_at dksX7_areApart_1 3 rfl rfl)
theorem dX7_areApart_27 : decode cX7_areApart 27 = .ok (.iload_n 2, 1) := dk_28 (dk_at dksX7_areApart_1 4 rfl rfl)
theorem dX7_areApart_28 : decode cX7_areApart 28 = .ok (.iload 5, 2) := dk_21 5 (dk_at dksX7_areApart_1 5 rfl rfl)
theorem dX7_areApart_30 : decode cX7_areApart 30 = .ok (.invokevirtual 266, 3) := dk_182 1 10 (dk_at dksX7_areApart_1 7 rfl rfl)
theorem dX7_areApart_33 : decode cX7_areApart 33 = .ok (.aload_n 0, 1) := dk_42 (dk_at dksX7_areApart_1 10 rfl rfl)
theorem dX7_areApart_34 : decode cX7_areApart 34 = .ok (.iload_n 3, 1) := dk_29 (dk_at dksX7_areApart_1 11 rfl rfl)
theorem dX7_areApart_35 : decode cX7_areApart 35 = .ok (.iload 5, 2) := dk_21 5 (dk_at dksX7_areApart_1 12 rfl rfl)
theorem dX7_areApart_37 : decode cX7_areApart 37 = .ok (.invokevirtual 266, 3) := dk_182 1 10 (dk_at dksX7_areApart_1 14 rfl rfl)
theorem dX7_areApart_40 : decode cX7_areApart 40 = .ok (.if_icmp .eq 7, 3) := dk_159 0 7 (dk_at dksX7_areApart_1 17 rfl rfl)
theorem dX7_areApart_43 : decode cX7_areApart 43 = .ok (.iconst 1, 1) := dk_4 (dk_at dksX7_areApart_1 20 rfl rfl)
theorem dX7_areApart_44 : decode cX7_areApart 44 = .ok (.goto 4, 3) := dk_167 0 4 (dk_at dksX7_areApart_1 21 rfl rfl)
theorem dX7_areApart_47 : decode cX7_areApart 47 = .ok (.iconst 0, 1) := dk_3 (dk_at dksX7_areApart_2 0 rfl rfl)
theorem dX7_areApart_48 : decode cX7_areApart 48 = .ok (.istore 4, 2) := dk_54 4 (dk_at dksX7_areApart_2 1 rfl rfl)
theorem dX7_areApart_50 : decode cX7_areApart 50 = .ok (.iinc 5 1, 3) := dk_132 5 1 (dk_at dksX7_areApart_2 3 rfl rfl)
theorem dX7_areApart_53 : decode cX7_areApart 53 = .ok (.goto (-47), 3) := dk_167 255 209 (dk_at dksX7_areApart_2 6 rfl rfl)
theorem dX7_areApart_56 : decode cX7_areApart 56 = .ok (.iload 4, 2) := dk_21 4 (dk_at dksX7_areApart_2 9 rfl rfl)
theorem dX7_areApart_58 : decode cX7_areApart 58 = .ok (.ireturn, 1) := dk_172 (dk_at dksX7_areApart_2 11 rfl rfl)
abbrev cX7_soonest : ByteArray := prog_20_method_102_code
def yX7_soonest : MethodName := ⟨RX7, "soonest", "(Z)I"⟩
def dkwX7_soonest_3 : List UInt8 := [159, 0, 7, 27, 154, 0, 7, 28, 167, 0, 4, 29, 172]
abbrev dktX7_soonest_3 : List UInt8 := dkwX7_soonest_3 ++ []
def dkwX7_soonest_2 : List UInt8 := [21, 5, 29, 161, 0, 6, 167, 0, 9, 21, 5, 62, 21, 4, 61, 132, 4, 1, 167, 255, 204, 28, 2]
abbrev dktX7_soonest_2 : List UInt8 := dkwX7_soonest_2 ++ dktX7_soonest_3
def dkwX7_soonest_1 : List UInt8 := [42, 21, 4, 42, 180, 0, 7, 16, 6, 46, 182, 1, 103, 42, 180, 0, 7, 16, 6, 46, 100, 54, 5]
abbrev dktX7_soonest_1 : List UInt8 := dkwX7_soonest_1 ++ dktX7_soonest_2
def dkwX7_soonest_0 : List UInt8 := [42, 3, 181, 0, 45, 2, 61, 16, 81, 62, 3, 54, 4, 21, 4, 42, 180, 0, 7, 7, 46, 162, 0, 47]
abbrev dktX7_soonest_0 : List UInt8 := dkwX7_soonest_0 ++ dktX7_soonest_1
theorem dksX7_soonest_0 : cX7_soonest.data.toList.drop 0 = dktX7_soonest_0 := by decide +kernel
theorem dksX7_soonest_1 : cX7_soonest.data.toList.drop 24 = dktX7_soonest_1 := dk_seg dksX7_soonest_0 24 rfl rfl
theorem dksX7_soonest_2 : cX7_soonest.data.toList.drop 47 = dktX7_soonest_2 := dk_seg dksX7_soonest_1 23 rfl rfl
theorem dksX7_soonest_3 : cX7_soonest.data.toList.drop 70 = dktX7_soonest_3 := dk_seg dksX7_soonest_2 23 rfl rfl
theorem dX7_soonest_0 : decode cX7_soonest 0 = .ok (.aload_n 0, 1) := dk_42 (dk_at dksX7_soonest_0 0 rfl rfl)
theorem dX7_soonest_1 : decode cX7_soonest 1 = .ok (.iconst 0, 1) := dk_3 (dk_at dksX7_soonest_0 1 rfl rfl)
theorem dX7_soonest_2 : decode cX7_soonest 2 = .ok (.putfield 45, 3) := dk_181 0 45 (dk_at dksX7_soonest_0 2 rfl rfl)
theorem dX7_soonest_5 : decode cX7_soonest 5 = .ok (.iconst (-1), 1) := dk_2 (dk_at dksX7_soonest_0 5 rfl rfl)
theorem dX7_soonest_6 : decode cX7_soonest 6 = .ok (.istore_n 2, 1) := dk_61 (dk_at dksX7_soonest_0 6 rfl rfl)
theorem dX7_soonest_7 : decode cX7_soonest 7 = .ok (.bipush 81, 2) := dk_16 81 (dk_at dksX7_soonest_0 7 rfl rfl)
theorem dX7_soonest_9 : decode cX7_soonest 9 = .ok (.istore_n 3, 1) := dk_62 (dk_at dksX7_soonest_0 9 rfl rfl)
theorem dX7_soonest_10 : decode cX7_soonest 10 = .ok (.iconst 0, 1) := dk_3 (dk_at dksX7_soonest_0 10 rfl rfl)
theorem dX7_soonest_11 : decode cX7_soonest 11 = .ok (.istore 4, 2) := dk_54 4 (dk_at dksX7_soonest_0 11 rfl rfl)
theorem dX7_soonest_13 : decode cX7_soonest 13 = .ok (.iload 4, 2) := dk_21 4 (dk_at dksX7_soonest_0 13 rfl rfl)
theorem dX7_soonest_15 : decode cX7_soonest 15 = .ok (.aload_n 0, 1) := dk_42 (dk_at dksX7_soonest_0 15 rfl rfl)
theorem dX7_soonest_16 : decode cX7_soonest 16 = .ok (.getfield 7, 3) := dk_180 0 7 (dk_at dksX7_soonest_0 16 rfl rfl)
theorem dX7_soonest_19 : decode cX7_soonest 19 = .ok (.iconst 4, 1) := dk_7 (dk_at dksX7_soonest_0 19 rfl rfl)
theorem dX7_soonest_20 : decode cX7_soonest 20 = .ok (.iaload, 1) := dk_46 (dk_at dksX7_soonest_0 20 rfl rfl)
theorem dX7_soonest_21 : decode cX7_soonest 21 = .ok (.if_icmp .ge 47, 3) := dk_162 0 47 (dk_at dksX7_soonest_0 21 rfl rfl)
theorem dX7_soonest_24 : decode cX7_soonest 24 = .ok (.aload_n 0, 1) := dk_42 (dk_at dksX7_soonest_1 0 rfl rfl)
theorem dX7_soonest_25 : decode cX7_soonest 25 = .ok (.iload 4, 2) := dk_21 4 (dk_at dksX7_soonest_1 1 rfl rfl)
theorem dX7_soonest_27 : decode cX7_soonest 27 = .ok (.aload_n 0, 1) := dk_42 (dk_at dksX7_soonest_1 3 rfl rfl)
theorem dX7_soonest_28 : decode cX7_soonest 28 = .ok (.getfield 7, 3) := dk_180 0 7 (dk_at dksX7_soonest_1 4 rfl rfl)
theorem dX7_soonest_31 : decode cX7_soonest 31 = .ok (.bipush 6, 2) := dk_16 6 (dk_at dksX7_soonest_1 7 rfl rfl)
theorem dX7_soonest_33 : decode cX7_soonest 33 = .ok (.iaload, 1) := dk_46 (dk_at dksX7_soonest_1 9 rfl rfl)
theorem dX7_soonest_34 : decode cX7_soonest 34 = .ok (.invokevirtual 359, 3) := dk_182 1 103 (dk_at dksX7_soonest_1 10 rfl rfl)
theorem dX7_soonest_37 : decode cX7_soonest 37 = .ok (.aload_n 0, 1) := dk_42 (dk_at dksX7_soonest_1 13 rfl rfl)
theorem dX7_soonest_38 : decode cX7_soonest 38 = .ok (.getfield 7, 3) := dk_180 0 7 (dk_at dksX7_soonest_1 14 rfl rfl)
theorem dX7_soonest_41 : decode cX7_soonest 41 = .ok (.bipush 6, 2) := dk_16 6 (dk_at dksX7_soonest_1 17 rfl rfl)
theorem dX7_soonest_43 : decode cX7_soonest 43 = .ok (.iaload, 1) := dk_46 (dk_at dksX7_soonest_1 19 rfl rfl)
theorem dX7_soonest_44 : decode cX7_soonest 44 = .ok (.isub, 1) := dk_100 (dk_at dksX7_soonest_1 20 rfl rfl)
theorem dX7_soonest_45 : decode cX7_soonest 45 = .ok (.istore 5, 2) := dk_54 5 (dk_at dksX7_soonest_1 21 rfl rfl)
theorem dX7_soonest_47 : decode cX7_soonest 47 = .ok (.iload 5, 2) := dk_21 5 (dk_at dksX7_soonest_2 0 rfl rfl)
theorem dX7_soonest_49 : decode cX7_soonest 49 = .ok (.iload_n 3, 1) := dk_29 (dk_at dksX7_soonest_2 2 rfl rfl)
theorem dX7_soonest_50 : decode cX7_soonest 50 = .ok (.if_icmp .lt 6, 3) := dk_161 0 6 (dk_at dksX7_soonest_2 3 rfl rfl)
theorem dX7_soonest_53 : decode cX7_soonest 53 = .ok (.goto 9, 3) := dk_167 0 9 (dk_at dksX7_soonest_2 6 rfl rfl)
theorem dX7_soonest_56 : decode cX7_soonest 56 = .ok (.iload 5, 2) := dk_21 5 (dk_at dksX7_soonest_2 9 rfl rfl)
theorem dX7_soonest_58 : decode cX7_soonest 58 = .ok (.istore_n 3, 1) := dk_62 (dk_at dksX7_soonest_2 11 rfl rfl)
theorem dX7_soonest_59 : decode cX7_soonest 59 = .ok (.iload 4, 2) := dk_21 4 (dk_at dksX7_soonest_2 12 rfl rfl)
theorem dX7_soonest_61 : decode cX7_soonest 61 = .ok (.istore_n 2, 1) := dk_61 (dk_at dksX7_soonest_2 14 rfl rfl)
theorem dX7_soonest_62 : decode cX7_soonest 62 = .ok (.iinc 4 1, 3) := dk_132 4 1 (dk_at dksX7_soonest_2 15 rfl rfl)
theorem dX7_soonest_65 : decode cX7_soonest 65 = .ok (.goto (-52), 3) := dk_167 255 204 (dk_at dksX7_soonest_2 18 rfl rfl)
theorem dX7_soonest_68 : decode cX7_soonest 68 = .ok (.iload_n 2, 1) := dk_28 (dk_at dksX7_soonest_2 21 rfl rfl)
theorem dX7_soonest_69 : decode cX7_soonest 69 = .ok (.iconst (-1), 1) := dk_2 (dk_at dksX7_soonest_2 22 rfl rfl)
theorem dX7_soonest_70 : decode cX7_soonest 70 = .ok (.if_icmp .eq 7, 3) := dk_159 0 7 (dk_at dksX7_soonest_3 0 rfl rfl)
theorem dX7_soonest_73 : decode cX7_soonest 73 = .ok (.iload_n 1, 1) := dk_27 (dk_at dksX7_soonest_3 3 rfl rfl)
theorem dX7_soonest_74 : decode cX7_soonest 74 = .ok (.ifCond .ne 7, 3) := dk_154 0 7 (dk_at dksX7_soonest_3 4 rfl rfl)
theorem dX7_soonest_77 : decode cX7_soonest 77 = .ok (.iload_n 2, 1) := dk_28 (dk_at dksX7_soonest_3 7 rfl rfl)
theorem dX7_soonest_78 : decode cX7_soonest 78 = .ok (.goto 4, 3) := dk_167 0 4 (dk_at dksX7_soonest_3 8 rfl rfl)
theorem dX7_soonest_81 : decode cX7_soonest 81 = .ok (.iload_n 3, 1) := dk_29 (dk_at dksX7_soonest_3 11 rfl rfl)
theorem dX7_soonest_82 : decode cX7_soonest 82 = .ok (.ireturn, 1) := dk_172 (dk_at dksX7_soonest_3 12 rfl rfl)
abbrev cX7_owes : ByteArray := prog_20_method_104_code
def yX7_owes : MethodName := ⟨RX7, "owes", "(II)I"⟩
def dkwX7_owes_2 : List UInt8 := [28, 2, 182, 1, 119, 172]
abbrev dktX7_owes_2 : List UInt8 := dkwX7_owes_2 ++ []
def dkwX7_owes_1 : List UInt8 := [160, 0, 7, 5, 167, 0, 4, 3, 181, 0, 45, 42, 180, 0, 45, 158, 0, 7, 3, 167, 0, 10, 42, 27]
abbrev dktX7_owes_1 : List UInt8 := dkwX7_owes_1 ++ dktX7_owes_2
def dkwX7_owes_0 : List UInt8 := [42, 42, 27, 182, 1, 50, 153, 0, 11, 42, 28, 182, 1, 50, 154, 0, 7, 4, 167, 0, 13, 27, 28]
abbrev dktX7_owes_0 : List UInt8 := dkwX7_owes_0 ++ dktX7_owes_1
theorem dksX7_owes_0 : cX7_owes.data.toList.drop 0 = dktX7_owes_0 := by decide +kernel
theorem dksX7_owes_1 : cX7_owes.data.toList.drop 23 = dktX7_owes_1 := dk_seg dksX7_owes_0 23 rfl rfl
theorem dksX7_owes_2 : cX7_owes.data.toList.drop 47 = dktX7_owes_2 := dk_seg dksX7_owes_1 24 rfl rfl
theorem dX7_owes_0 : decode cX7_owes 0 = .ok (.aload_n 0, 1) := dk_42 (dk_at dksX7_owes_0 0 rfl rfl)
theorem dX7_owes_1 : decode cX7_owes 1 = .ok (.aload_n 0, 1) := dk_42 (dk_at dksX7_owes_0 1 rfl rfl)
theorem dX7_owes_2 : decode cX7_owes 2 = .ok (.iload_n 1, 1) := dk_27 (dk_at dksX7_owes_0 2 rfl rfl)
theorem dX7_owes_3 : decode cX7_owes 3 = .ok (.invokevirtual 306, 3) := dk_182 1 50 (dk_at dksX7_owes_0 3 rfl rfl)
theorem dX7_owes_6 : decode cX7_owes 6 = .ok (.ifCond .eq 11, 3) := dk_153 0 11 (dk_at dksX7_owes_0 6 rfl rfl)
theorem dX7_owes_9 : decode cX7_owes 9 = .ok (.aload_n 0, 1) := dk_42 (dk_at dksX7_owes_0 9 rfl rfl)
theorem dX7_owes_10 : decode cX7_owes 10 = .ok (.iload_n 2, 1) := dk_28 (dk_at dksX7_owes_0 10 rfl rfl)
theorem dX7_owes_11 : decode cX7_owes 11 = .ok (.invokevirtual 306, 3) := dk_182 1 50 (dk_at dksX7_owes_0 11 rfl rfl)
theorem dX7_owes_14 : decode cX7_owes 14 = .ok (.ifCond .ne 7, 3) := dk_154 0 7 (dk_at dksX7_owes_0 14 rfl rfl)
theorem dX7_owes_17 : decode cX7_owes 17 = .ok (.iconst 1, 1) := dk_4 (dk_at dksX7_owes_0 17 rfl rfl)
theorem dX7_owes_18 : decode cX7_owes 18 = .ok (.goto 13, 3) := dk_167 0 13 (dk_at dksX7_owes_0 18 rfl rfl)
theorem dX7_owes_21 : decode cX7_owes 21 = .ok (.iload_n 1, 1) := dk_27 (dk_at dksX7_owes_0 21 rfl rfl)
theorem dX7_owes_22 : decode cX7_owes 22 = .ok (.iload_n 2, 1) := dk_28 (dk_at dksX7_owes_0 22 rfl rfl)
theorem dX7_owes_23 : decode cX7_owes 23 = .ok (.if_icmp .ne 7, 3) := dk_160 0 7 (dk_at dksX7_owes_1 0 rfl rfl)
theorem dX7_owes_26 : decode cX7_owes 26 = .ok (.iconst 2, 1) := dk_5 (dk_at dksX7_owes_1 3 rfl rfl)
theorem dX7_owes_27 : decode cX7_owes 27 = .ok (.goto 4, 3) := dk_167 0 4 (dk_at dksX7_owes_1 4 rfl rfl)
theorem dX7_owes_30 : decode cX7_owes 30 = .ok (.iconst 0, 1) := dk_3 (dk_at dksX7_owes_1 7 rfl rfl)
theorem dX7_owes_31 : decode cX7_owes 31 = .ok (.putfield 45, 3) := dk_181 0 45 (dk_at dksX7_owes_1 8 rfl rfl)
theorem dX7_owes_34 : decode cX7_owes 34 = .ok (.aload_n 0, 1) := dk_42 (dk_at dksX7_owes_1 11 rfl rfl)
theorem dX7_owes_35 : decode cX7_owes 35 = .ok (.getfield 45, 3) := dk_180 0 45 (dk_at dksX7_owes_1 12 rfl rfl)
theorem dX7_owes_38 : decode cX7_owes 38 = .ok (.ifCond .le 7, 3) := dk_158 0 7 (dk_at dksX7_owes_1 15 rfl rfl)
theorem dX7_owes_41 : decode cX7_owes 41 = .ok (.iconst 0, 1) := dk_3 (dk_at dksX7_owes_1 18 rfl rfl)
theorem dX7_owes_42 : decode cX7_owes 42 = .ok (.goto 10, 3) := dk_167 0 10 (dk_at dksX7_owes_1 19 rfl rfl)
theorem dX7_owes_45 : decode cX7_owes 45 = .ok (.aload_n 0, 1) := dk_42 (dk_at dksX7_owes_1 22 rfl rfl)
theorem dX7_owes_46 : decode cX7_owes 46 = .ok (.iload_n 1, 1) := dk_27 (dk_at dksX7_owes_1 23 rfl rfl)
theorem dX7_owes_47 : decode cX7_owes 47 = .ok (.iload_n 2, 1) := dk_28 (dk_at dksX7_owes_2 0 rfl rfl)
theorem dX7_owes_48 : decode cX7_owes 48 = .ok (.iconst (-1), 1) := dk_2 (dk_at dksX7_owes_2 1 rfl rfl)
theorem dX7_owes_49 : decode cX7_owes 49 = .ok (.invokevirtual 375, 3) := dk_182 1 119 (dk_at dksX7_owes_2 2 rfl rfl)
theorem dX7_owes_52 : decode cX7_owes 52 = .ok (.ireturn, 1) := dk_172 (dk_at dksX7_owes_2 5 rfl rfl)
abbrev cX7_owesBy : ByteArray := prog_20_method_103_code
def yX7_owesBy : MethodName := ⟨RX7, "owesBy", "(III)I"⟩
def dkwX7_owesBy_6 : List UInt8 := [167, 255, 125, 3, 21, 4, 184, 1, 13, 172]
abbrev dktX7_owesBy_6 : List UInt8 := dkwX7_owesBy_6 ++ []
def dkwX7_owesBy_5 : List UInt8 := [27, 160, 0, 14, 42, 21, 5, 6, 182, 0, 52, 116, 167, 0, 4, 3, 96, 54, 4, 132, 5, 1]
abbrev dktX7_owesBy_5 : List UInt8 := dkwX7_owesBy_5 ++ dktX7_owesBy_6
def dkwX7_owesBy_4 : List UInt8 := [182, 0, 52, 167, 0, 37, 42, 21, 5, 4, 182, 0, 52, 28, 160, 0, 25, 42, 21, 5, 5, 182, 0, 52]
abbrev dktX7_owesBy_4 : List UInt8 := dkwX7_owesBy_4 ++ dktX7_owesBy_5
def dkwX7_owesBy_3 : List UInt8 := [182, 0, 52, 27, 160, 0, 24, 42, 21, 5, 5, 182, 0, 52, 28, 160, 0, 13, 42, 21, 5, 6]
abbrev dktX7_owesBy_3 : List UInt8 := dkwX7_owesBy_3 ++ dktX7_owesBy_4
def dkwX7_owesBy_2 : List UInt8 := [159, 0, 88, 42, 21, 5, 5, 182, 0, 52, 29, 160, 0, 6, 167, 0, 74, 21, 4, 42, 21, 5, 4]
abbrev dktX7_owesBy_2 : List UInt8 := dkwX7_owesBy_2 ++ dktX7_owesBy_3
def dkwX7_owesBy_1 : List UInt8 := [153, 0, 111, 42, 21, 5, 16, 11, 182, 0, 52, 4, 159, 0, 99, 42, 21, 5, 4, 182, 0, 52, 29]
abbrev dktX7_owesBy_1 : List UInt8 := dkwX7_owesBy_1 ++ dktX7_owesBy_2
def dkwX7_owesBy_0 : List UInt8 := [3, 54, 4, 3, 54, 5, 21, 5, 42, 180, 0, 7, 8, 46, 162, 0, 126, 42, 21, 5, 182, 1, 38]
abbrev dktX7_owesBy_0 : List UInt8 := dkwX7_owesBy_0 ++ dktX7_owesBy_1
theorem dksX7_owesBy_0 : cX7_owesBy.data.toList.drop 0 = dktX7_owesBy_0 := by decide +kernel
theorem dksX7_owesBy_1 : cX7_owesBy.data.toList.drop 23 = dktX7_owesBy_1 := dk_seg dksX7_owesBy_0 23 rfl rfl
theorem dksX7_owesBy_2 : cX7_owesBy.data.toList.drop 46 = dktX7_owesBy_2 := dk_seg dksX7_owesBy_1 23 rfl rfl
theorem dksX7_owesBy_3 : cX7_owesBy.data.toList.drop 69 = dktX7_owesBy_3 := dk_seg dksX7_owesBy_2 23 rfl rfl
theorem dksX7_owesBy_4 : cX7_owesBy.data.toList.drop 91 = dktX7_owesBy_4 := dk_seg dksX7_owesBy_3 22 rfl rfl
theorem dksX7_owesBy_5 : cX7_owesBy.data.toList.drop 115 = dktX7_owesBy_5 := dk_seg dksX7_owesBy_4 24 rfl rfl
theorem dksX7_owesBy_6 : cX7_owesBy.data.toList.drop 137 = dktX7_owesBy_6 := dk_seg dksX7_owesBy_5 22 rfl rfl
theorem dX7_owesBy_0 : decode cX7_owesBy 0 = .ok (.iconst 0, 1) := dk_3 (dk_at dksX7_owesBy_0 0 rfl rfl)
theorem dX7_owesBy_1 : decode cX7_owesBy 1 = .ok (.istore 4, 2) := dk_54 4 (dk_at dksX7_owesBy_0 1 rfl rfl)
theorem dX7_owesBy_3 : decode cX7_owesBy 3 = .ok (.iconst 0, 1) := dk_3 (dk_at dksX7_owesBy_0 3 rfl rfl)
theorem dX7_owesBy_4 : decode cX7_owesBy 4 = .ok (.istore 5, 2) := dk_54 5 (dk_at dksX7_owesBy_0 4 rfl rfl)
theorem dX7_owesBy_6 : decode cX7_owesBy 6 = .ok (.iload 5, 2) := dk_21 5 (dk_at dksX7_owesBy_0 6 rfl rfl)
theorem dX7_owesBy_8 : decode cX7_owesBy 8 = .ok (.aload_n 0, 1) := dk_42 (dk_at dksX7_owesBy_0 8 rfl rfl)
theorem dX7_owesBy_9 : decode cX7_owesBy 9 = .ok (.getfield 7, 3) := dk_180 0 7 (dk_at dksX7_owesBy_0 9 rfl rfl)
theorem dX7_owesBy_12 : decode cX7_owesBy 12 = .ok (.iconst 5, 1) := dk_8 (dk_at dksX7_owesBy_0 12 rfl rfl)
theorem dX7_owesBy_13 : decode cX7_owesBy 13 = .ok (.iaload, 1) := dk_46 (dk_at dksX7_owesBy_0 13 rfl rfl)
theorem dX7_owesBy_14 : decode cX7_owesBy 14 = .ok (.if_icmp .ge 126, 3) := dk_162 0 126 (dk_at dksX7_owesBy_0 14 rfl rfl)
theorem dX7_owesBy_17 : decode cX7_owesBy 17 = .ok (.aload_n 0, 1) := dk_42 (dk_at dksX7_owesBy_0 17 rfl rfl)
theorem dX7_owesBy_18 : decode cX7_owesBy 18 = .ok (.iload 5, 2) := dk_21 5 (dk_at dksX7_owesBy_0 18 rfl rfl)
theorem dX7_owesBy_20 : decode cX7_owesBy 20 = .ok (.invokevirtual 294, 3) := dk_182 1 38 (dk_at dksX7_owesBy_0 20 rfl rfl)
theorem dX7_owesBy_23 : decode cX7_owesBy 23 = .ok (.ifCond .eq 111, 3) := dk_153 0 111 (dk_at dksX7_owesBy_1 0 rfl rfl)
theorem dX7_owesBy_26 : decode cX7_owesBy 26 = .ok (.aload_n 0, 1) := dk_42 (dk_at dksX7_owesBy_1 3 rfl rfl)
theorem dX7_owesBy_27 : decode cX7_owesBy 27 = .ok (.iload 5, 2) := dk_21 5 (dk_at dksX7_owesBy_1 4 rfl rfl)
theorem dX7_owesBy_29 : decode cX7_owesBy 29 = .ok (.bipush 11, 2) := dk_16 11 (dk_at dksX7_owesBy_1 6 rfl rfl)
theorem dX7_owesBy_31 : decode cX7_owesBy 31 = .ok (.invokevirtual 52, 3) := dk_182 0 52 (dk_at dksX7_owesBy_1 8 rfl rfl)
theorem dX7_owesBy_34 : decode cX7_owesBy 34 = .ok (.iconst 1, 1) := dk_4 (dk_at dksX7_owesBy_1 11 rfl rfl)
theorem dX7_owesBy_35 : decode cX7_owesBy 35 = .ok (.if_icmp .eq 99, 3) := dk_159 0 99 (dk_at dksX7_owesBy_1 12 rfl rfl)
theorem dX7_owesBy_38 : decode cX7_owesBy 38 = .ok (.aload_n 0, 1) := dk_42 (dk_at dksX7_owesBy_1 15 rfl rfl)
theorem dX7_owesBy_39 : decode cX7_owesBy 39 = .ok (.iload 5, 2) := dk_21 5 (dk_at dksX7_owesBy_1 16 rfl rfl)
theorem dX7_owesBy_41 : decode cX7_owesBy 41 = .ok (.iconst 1, 1) := dk_4 (dk_at dksX7_owesBy_1 18 rfl rfl)
theorem dX7_owesBy_42 : decode cX7_owesBy 42 = .ok (.invokevirtual 52, 3) := dk_182 0 52 (dk_at dksX7_owesBy_1 19 rfl rfl)
theorem dX7_owesBy_45 : decode cX7_owesBy 45 = .ok (.iload_n 3, 1) := dk_29 (dk_at dksX7_owesBy_1 22 rfl rfl)
theorem dX7_owesBy_46 : decode cX7_owesBy 46 = .ok (.if_icmp .eq 88, 3) := dk_159 0 88 (dk_at dksX7_owesBy_2 0 rfl rfl)
theorem dX7_owesBy_49 : decode cX7_owesBy 49 = .ok (.aload_n 0, 1) := dk_42 (dk_at dksX7_owesBy_2 3 rfl rfl)
theorem dX7_owesBy_50 : decode cX7_owesBy 50 = .ok (.iload 5, 2) := dk_21 5 (dk_at dksX7_owesBy_2 4 rfl rfl)
theorem dX7_owesBy_52 : decode cX7_owesBy 52 = .ok (.iconst 2, 1) := dk_5 (dk_at dksX7_owesBy_2 6 rfl rfl)
theorem dX7_owesBy_53 : decode cX7_owesBy 53 = .ok (.invokevirtual 52, 3) := dk_182 0 52 (dk_at dksX7_owesBy_2 7 rfl rfl)
theorem dX7_owesBy_56 : decode cX7_owesBy 56 = .ok (.iload_n 3, 1) := dk_29 (dk_at dksX7_owesBy_2 10 rfl rfl)
theorem dX7_owesBy_57 : decode cX7_owesBy 57 = .ok (.if_icmp .ne 6, 3) := dk_160 0 6 (dk_at dksX7_owesBy_2 11 rfl rfl)
theorem dX7_owesBy_60 : decode cX7_owesBy 60 = .ok (.goto 74, 3) := dk_167 0 74 (dk_at dksX7_owesBy_2 14 rfl rfl)
theorem dX7_owesBy_63 : decode cX7_owesBy 63 = .ok (.iload 4, 2) := dk_21 4 (dk_at dksX7_owesBy_2 17 rfl rfl)
theorem dX7_owesBy_65 : decode cX7_owesBy 65 = .ok (.aload_n 0, 1) := dk_42 (dk_at dksX7_owesBy_2 19 rfl rfl)
theorem dX7_owesBy_66 : decode cX7_owesBy 66 = .ok (.iload 5, 2) := dk_21 5 (dk_at dksX7_owesBy_2 20 rfl rfl)
theorem dX7_owesBy_68 : decode cX7_owesBy 68 = .ok (.iconst 1, 1) := dk_4 (dk_at dksX7_owesBy_2 22 rfl rfl)
theorem dX7_owesBy_69 : decode cX7_owesBy 69 = .ok (.invokevirtual 52, 3) := dk_182 0 52 (dk_at dksX7_owesBy_3 0 rfl rfl)
theorem dX7_owesBy_72 : decode cX7_owesBy 72 = .ok (.iload_n 1, 1) := dk_27 (dk_at dksX7_owesBy_3 3 rfl rfl)
theorem dX7_owesBy_73 : decode cX7_owesBy 73 = .ok (.if_icmp .ne 24, 3) := dk_160 0 24 (dk_at dksX7_owesBy_3 4 rfl rfl)
theorem dX7_owesBy_76 : decode cX7_owesBy 76 = .ok (.aload_n 0, 1) := dk_42 (dk_at dksX7_owesBy_3 7 rfl rfl)
theorem dX7_owesBy_77 : decode cX7_owesBy 77 = .ok (.iload 5, 2) := dk_21 5 (dk_at dksX7_owesBy_3 8 rfl rfl)
theorem dX7_owesBy_79 : decode cX7_owesBy 79 = .ok (.iconst 2, 1) := dk_5 (dk_at dksX7_owesBy_3 10 rfl rfl)
theorem dX7_owesBy_80 : decode cX7_owesBy 80 = .ok (.invokevirtual 52, 3) := dk_182 0 52 (dk_at dksX7_owesBy_3 11 rfl rfl)
theorem dX7_owesBy_83 : decode cX7_owesBy 83 = .ok (.iload_n 2, 1) := dk_28 (dk_at dksX7_owesBy_3 14 rfl rfl)
theorem dX7_owesBy_84 : decode cX7_owesBy 84 = .ok (.if_icmp .ne 13, 3) := dk_160 0 13 (dk_at dksX7_owesBy_3 15 rfl rfl)
theorem dX7_owesBy_87 : decode cX7_owesBy 87 = .ok (.aload_n 0, 1) := dk_42 (dk_at dksX7_owesBy_3 18 rfl rfl)
theorem dX7_owesBy_88 : decode cX7_owesBy 88 = .ok (.iload 5, 2) := dk_21 5 (dk_at dksX7_owesBy_3 19 rfl rfl)
theorem dX7_owesBy_90 : decode cX7_owesBy 90 = .ok (.iconst 3, 1) := dk_6 (dk_at dksX7_owesBy_3 21 rfl rfl)
theorem dX7_owesBy_91 : decode cX7_owesBy 91 = .ok (.invokevirtual 52, 3) := dk_182 0 52 (dk_at dksX7_owesBy_4 0 rfl rfl)
theorem dX7_owesBy_94 : decode cX7_owesBy 94 = .ok (.goto 37, 3) := dk_167 0 37 (dk_at dksX7_owesBy_4 3 rfl rfl)
theorem dX7_owesBy_97 : decode cX7_owesBy 97 = .ok (.aload_n 0, 1) := dk_42 (dk_at dksX7_owesBy_4 6 rfl rfl)
theorem dX7_owesBy_98 : decode cX7_owesBy 98 = .ok (.iload 5, 2) := dk_21 5 (dk_at dksX7_owesBy_4 7 rfl rfl)
theorem dX7_owesBy_100 : decode cX7_owesBy 100 = .ok (.iconst 1, 1) := dk_4 (dk_at dksX7_owesBy_4 9 rfl rfl)
theorem dX7_owesBy_101 : decode cX7_owesBy 101 = .ok (.invokevirtual 52, 3) := dk_182 0 52 (dk_at dksX7_owesBy_4 10 rfl rfl)
theorem dX7_owesBy_104 : decode cX7_owesBy 104 = .ok (.iload_n 2, 1) := dk_28 (dk_at dksX7_owesBy_4 13 rfl rfl)
theorem dX7_owesBy_105 : decode cX7_owesBy 105 = .ok (.if_icmp .ne 25, 3) := dk_160 0 25 (dk_at dksX7_owesBy_4 14 rfl rfl)
theorem dX7_owesBy_108 : decode cX7_owesBy 108 = .ok (.aload_n 0, 1) := dk_42 (dk_at dksX7_owesBy_4 17 rfl rfl)
theorem dX7_owesBy_109 : decode cX7_owesBy 109 = .ok (.iload 5, 2) := dk_21 5 (dk_at dksX7_owesBy_4 18 rfl rfl)
theorem dX7_owesBy_111 : decode cX7_owesBy 111 = .ok (.iconst 2, 1) := dk_5 (dk_at dksX7_owesBy_4 20 rfl rfl)
theorem dX7_owesBy_112 : decode cX7_owesBy 112 = .ok (.invokevirtual 52, 3) := dk_182 0 52 (dk_at dksX7_owesBy_4 21 rfl rfl)
theorem dX7_owesBy_115 : decode cX7_owesBy 115 = .ok (.iload_n 1, 1) := dk_27 (dk_at dksX7_owesBy_5 0 rfl rfl)
theorem dX7_owesBy_116 : decode cX7_owesBy 116 = .ok (.if_icmp .ne 14, 3) := dk_160 0 14 (dk_at dksX7_owesBy_5 1 rfl rfl)
theorem dX7_owesBy_119 : decode cX7_owesBy 119 = .ok (.aload_n 0, 1) := dk_42 (dk_at dksX7_owesBy_5 4 rfl rfl)
theorem dX7_owesBy_120 : decode cX7_owesBy 120 = .ok (.iload 5, 2) := dk_21 5 (dk_at dksX7_owesBy_5 5 rfl rfl)
theorem dX7_owesBy_122 : decode cX7_owesBy 122 = .ok (.iconst 3, 1) := dk_6 (dk_at dksX7_owesBy_5 7 rfl rfl)
theorem dX7_owesBy_123 : decode cX7_owesBy 123 = .ok (.invokevirtual 52, 3) := dk_182 0 52 (dk_at dksX7_owesBy_5 8 rfl rfl)
theorem dX7_owesBy_126 : decode cX7_owesBy 126 = .ok (.ineg, 1) := dk_116 (dk_at dksX7_owesBy_5 11 rfl rfl)
theorem dX7_owesBy_127 : decode cX7_owesBy 127 = .ok (.goto 4, 3) := dk_167 0 4 (dk_at dksX7_owesBy_5 12 rfl rfl)
theorem dX7_owesBy_130 : decode cX7_owesBy 130 = .ok (.iconst 0, 1) := dk_3 (dk_at dksX7_owesBy_5 15 rfl rfl)
theorem dX7_owesBy_131 : decode cX7_owesBy 131 = .ok (.iadd, 1) := dk_96 (dk_at dksX7_owesBy_5 16 rfl rfl)
theorem dX7_owesBy_132 : decode cX7_owesBy 132 = .ok (.istore 4, 2) := dk_54 4 (dk_at dksX7_owesBy_5 17 rfl rfl)
theorem dX7_owesBy_134 : decode cX7_owesBy 134 = .ok (.iinc 5 1, 3) := dk_132 5 1 (dk_at dksX7_owesBy_5 19 rfl rfl)
theorem dX7_owesBy_137 : decode cX7_owesBy 137 = .ok (.goto (-131), 3) := dk_167 255 125 (dk_at dksX7_owesBy_6 0 rfl rfl)
theorem dX7_owesBy_140 : decode cX7_owesBy 140 = .ok (.iconst 0, 1) := dk_3 (dk_at dksX7_owesBy_6 3 rfl rfl)
theorem dX7_owesBy_141 : decode cX7_owesBy 141 = .ok (.iload 4, 2) := dk_21 4 (dk_at dksX7_owesBy_6 4 rfl rfl)
theorem dX7_owesBy_143 : decode cX7_owesBy 143 = .ok (.invokestatic 269, 3) := dk_184 1 13 (dk_at dksX7_owesBy_6 6 rfl rfl)
theorem dX7_owesBy_146 : decode cX7_owesBy 146 = .ok (.ireturn, 1) := dk_172 (dk_at dksX7_owesBy_6 9 rfl rfl)
abbrev cX7_cleared : ByteArray := prog_20_method_106_code
def yX7_cleared : MethodName := ⟨RX7, "cleared", "()I"⟩
def dkwX7_cleared_0 : List UInt8 := [42, 3, 181, 0, 45, 42, 2, 182, 1, 122, 172]
abbrev dktX7_cleared_0 : List UInt8 := dkwX7_cleared_0 ++ []
theorem dksX7_cleared_0 : cX7_cleared.data.toList.drop 0 = dktX7_cleared_0 := by decide +kernel
theorem dX7_cleared_0 : decode cX7_cleared 0 = .ok (.aload_n 0, 1) := dk_42 (dk_at dksX7_cleared_0 0 rfl rfl)
theorem dX7_cleared_1 : decode cX7_cleared 1 = .ok (.iconst 0, 1) := dk_3 (dk_at dksX7_cleared_0 1 rfl rfl)
theorem dX7_cleared_2 : decode cX7_cleared 2 = .ok (.putfield 45, 3) := dk_181 0 45 (dk_at dksX7_cleared_0 2 rfl rfl)
theorem dX7_cleared_5 : decode cX7_cleared 5 = .ok (.aload_n 0, 1) := dk_42 (dk_at dksX7_cleared_0 5 rfl rfl)
theorem dX7_cleared_6 : decode cX7_cleared 6 = .ok (.iconst (-1), 1) := dk_2 (dk_at dksX7_cleared_0 6 rfl rfl)
theorem dX7_cleared_7 : decode cX7_cleared 7 = .ok (.invokevirtual 378, 3) := dk_182 1 122 (dk_at dksX7_cleared_0 7 rfl rfl)
theorem dX7_cleared_10 : decode cX7_cleared 10 = .ok (.ireturn, 1) := dk_172 (dk_at dksX7_cleared_0 10 rfl rfl)
abbrev cX7_clearedBy : ByteArray := prog_20_method_105_code
def yX7_clearedBy : MethodName := ⟨RX7, "clearedBy", "(I)I"⟩
def dkwX7_clearedBy_3 : List UInt8 := [21, 4, 184, 1, 13, 96, 61, 132, 3, 1, 167, 255, 179, 28, 172]
abbrev dktX7_clearedBy_3 : List UInt8 := dkwX7_clearedBy_3 ++ []
def dkwX7_clearedBy_2 : List UInt8 := [27, 182, 1, 119, 42, 21, 5, 29, 27, 182, 1, 119, 100, 96, 54, 4, 132, 5, 1, 167, 255, 210, 28, 3]
abbrev dktX7_clearedBy_2 : List UInt8 := dkwX7_clearedBy_2 ++ dktX7_clearedBy_3
def dkwX7_clearedBy_1 : List UInt8 := [180, 0, 7, 6, 46, 162, 0, 41, 21, 4, 21, 5, 29, 160, 0, 7, 3, 167, 0, 20, 42, 29, 21, 5]
abbrev dktX7_clearedBy_1 : List UInt8 := dkwX7_clearedBy_1 ++ dktX7_clearedBy_2
def dkwX7_clearedBy_0 : List UInt8 := [3, 61, 3, 62, 29, 42, 180, 0, 7, 6, 46, 162, 0, 73, 3, 54, 4, 3, 54, 5, 21, 5, 42]
abbrev dktX7_clearedBy_0 : List UInt8 := dkwX7_clearedBy_0 ++ dktX7_clearedBy_1
theorem dksX7_clearedBy_0 : cX7_clearedBy.data.toList.drop 0 = dktX7_clearedBy_0 := by decide +kernel
theorem dksX7_clearedBy_1 : cX7_clearedBy.data.toList.drop 23 = dktX7_clearedBy_1 := dk_seg dksX7_clearedBy_0 23 rfl rfl
theorem dksX7_clearedBy_2 : cX7_clearedBy.data.toList.drop 47 = dktX7_clearedBy_2 := dk_seg dksX7_clearedBy_1 24 rfl rfl
theorem dksX7_clearedBy_3 : cX7_clearedBy.data.toList.drop 71 = dktX7_clearedBy_3 := dk_seg dksX7_clearedBy_2 24 rfl rfl
theorem dX7_clearedBy_0 : decode cX7_clearedBy 0 = .ok (.iconst 0, 1) := dk_3 (dk_at dksX7_clearedBy_0 0 rfl rfl)
theorem dX7_clearedBy_1 : decode cX7_clearedBy 1 = .ok (.istore_n 2, 1) := dk_61 (dk_at dksX7_clearedBy_0 1 rfl rfl)
theorem dX7_clearedBy_2 : decode cX7_clearedBy 2 = .ok (.iconst 0, 1) := dk_3 (dk_at dksX7_clearedBy_0 2 rfl rfl)
theorem dX7_clearedBy_3 : decode cX7_clearedBy 3 = .ok (.istore_n 3, 1) := dk_62 (dk_at dksX7_clearedBy_0 3 rfl rfl)
theorem dX7_clearedBy_4 : decode cX7_clearedBy 4 = .ok (.iload_n 3, 1) := dk_29 (dk_at dksX7_clearedBy_0 4 rfl rfl)
theorem dX7_clearedBy_5 : decode cX7_clearedBy 5 = .ok (.aload_n 0, 1) := dk_42 (dk_at dksX7_clearedBy_0 5 rfl rfl)
theorem dX7_clearedBy_6 : decode cX7_clearedBy 6 = .ok (.getfield 7, 3) := dk_180 0 7 (dk_at dksX7_clearedBy_0 6 rfl rfl)
theorem dX7_clearedBy_9 : decode cX7_clearedBy 9 = .ok (.iconst 3, 1) := dk_6 (dk_at dksX7_clearedBy_0 9 rfl rfl)
theorem dX7_clearedBy_10 : decode cX7_clearedBy 10 = .ok (.iaload, 1) := dk_46 (dk_at dksX7_clearedBy_0 10 rfl rfl)
theorem dX7_clearedBy_11 : decode cX7_clearedBy 11 = .ok (.if_icmp .ge 73, 3) := dk_162 0 73 (dk_at dksX7_clearedBy_0 11 rfl rfl)
theorem dX7_clearedBy_14 : decode cX7_clearedBy 14 = .ok (.iconst 0, 1) := dk_3 (dk_at dksX7_clearedBy_0 14 rfl rfl)
theorem dX7_clearedBy_15 : decode cX7_clearedBy 15 = .ok (.istore 4, 2) := dk_54 4 (dk_at dksX7_clearedBy_0 15 rfl rfl)
theorem dX7_clearedBy_17 : decode cX7_clearedBy 17 = .ok (.iconst 0, 1) := dk_3 (dk_at dksX7_clearedBy_0 17 rfl rfl)
theorem dX7_clearedBy_18 : decode cX7_clearedBy 18 = .ok (.istore 5, 2) := dk_54 5 (dk_at dksX7_clearedBy_0 18 rfl rfl)
theorem dX7_clearedBy_20 : decode cX7_clearedBy 20 = .ok (.iload 5, 2) := dk_21 5 (dk_at dksX7_clearedBy_0 20 rfl rfl)
theorem dX7_clearedBy_22 : decode cX7_clearedBy 22 = .ok (.aload_n 0, 1) := dk_42 (dk_at dksX7_clearedBy_0 22 rfl rfl)
theorem dX7_clearedBy_23 : decode cX7_clearedBy 23 = .ok (.getfield 7, 3) := dk_180 0 7 (dk_at dksX7_clearedBy_1 0 rfl rfl)
theorem dX7_clearedBy_26 : decode cX7_clearedBy 26 = .ok (.iconst 3, 1) := dk_6 (dk_at dksX7_clearedBy_1 3 rfl rfl)
theorem dX7_clearedBy_27 : decode cX7_clearedBy 27 = .ok (.iaload, 1) := dk_46 (dk_at dksX7_clearedBy_1 4 rfl rfl)
theorem dX7_clearedBy_28 : decode cX7_clearedBy 28 = .ok (.if_icmp .ge 41, 3) := dk_162 0 41 (dk_at dksX7_clearedBy_1 5 rfl rfl)
theorem dX7_clearedBy_31 : decode cX7_clearedBy 31 = .ok (.iload 4, 2) := dk_21 4 (dk_at dksX7_clearedBy_1 8 rfl rfl)
theorem dX7_clearedBy_33 : decode cX7_clearedBy 33 = .ok (.iload 5, 2) := dk_21 5 (dk_at dksX7_clearedBy_1 10 rfl rfl)
theorem dX7_clearedBy_35 : decode cX7_clearedBy 35 = .ok (.iload_n 3, 1) := dk_29 (dk_at dksX7_clearedBy_1 12 rfl rfl)
theorem dX7_clearedBy_36 : decode cX7_clearedBy 36 = .ok (.if_icmp .ne 7, 3) := dk_160 0 7 (dk_at dksX7_clearedBy_1 13 rfl rfl)
theorem dX7_clearedBy_39 : decode cX7_clearedBy 39 = .ok (.iconst 0, 1) := dk_3 (dk_at dksX7_clearedBy_1 16 rfl rfl)
theorem dX7_clearedBy_40 : decode cX7_clearedBy 40 = .ok (.goto 20, 3) := dk_167 0 20 (dk_at dksX7_clearedBy_1 17 rfl rfl)
theorem dX7_clearedBy_43 : decode cX7_clearedBy 43 = .ok (.aload_n 0, 1) := dk_42 (dk_at dksX7_clearedBy_1 20 rfl rfl)
theorem dX7_clearedBy_44 : decode cX7_clearedBy 44 = .ok (.iload_n 3, 1) := dk_29 (dk_at dksX7_clearedBy_1 21 rfl rfl)
theorem dX7_clearedBy_45 : decode cX7_clearedBy 45 = .ok (.iload 5, 2) := dk_21 5 (dk_at dksX7_clearedBy_1 22 rfl rfl)
theorem dX7_clearedBy_47 : decode cX7_clearedBy 47 = .ok (.iload_n 1, 1) := dk_27 (dk_at dksX7_clearedBy_2 0 rfl rfl)
theorem dX7_clearedBy_48 : decode cX7_clearedBy 48 = .ok (.invokevirtual 375, 3) := dk_182 1 119 (dk_at dksX7_clearedBy_2 1 rfl rfl)
theorem dX7_clearedBy_51 : decode cX7_clearedBy 51 = .ok (.aload_n 0, 1) := dk_42 (dk_at dksX7_clearedBy_2 4 rfl rfl)
theorem dX7_clearedBy_52 : decode cX7_clearedBy 52 = .ok (.iload 5, 2) := dk_21 5 (dk_at dksX7_clearedBy_2 5 rfl rfl)
theorem dX7_clearedBy_54 : decode cX7_clearedBy 54 = .ok (.iload_n 3, 1) := dk_29 (dk_at dksX7_clearedBy_2 7 rfl rfl)
theorem dX7_clearedBy_55 : decode cX7_clearedBy 55 = .ok (.iload_n 1, 1) := dk_27 (dk_at dksX7_clearedBy_2 8 rfl rfl)
theorem dX7_clearedBy_56 : decode cX7_clearedBy 56 = .ok (.invokevirtual 375, 3) := dk_182 1 119 (dk_at dksX7_clearedBy_2 9 rfl rfl)
theorem dX7_clearedBy_59 : decode cX7_clearedBy 59 = .ok (.isub, 1) := dk_100 (dk_at dksX7_clearedBy_2 12 rfl rfl)
theorem dX7_clearedBy_60 : decode cX7_clearedBy 60 = .ok (.iadd, 1) := dk_96 (dk_at dksX7_clearedBy_2 13 rfl rfl)
theorem dX7_clearedBy_61 : decode cX7_clearedBy 61 = .ok (.istore 4, 2) := dk_54 4 (dk_at dksX7_clearedBy_2 14 rfl rfl)
theorem dX7_clearedBy_63 : decode cX7_clearedBy 63 = .ok (.iinc 5 1, 3) := dk_132 5 1 (dk_at dksX7_clearedBy_2 16 rfl rfl)
theorem dX7_clearedBy_66 : decode cX7_clearedBy 66 = .ok (.goto (-46), 3) := dk_167 255 210 (dk_at dksX7_clearedBy_2 19 rfl rfl)
theorem dX7_clearedBy_69 : decode cX7_clearedBy 69 = .ok (.iload_n 2, 1) := dk_28 (dk_at dksX7_clearedBy_2 22 rfl rfl)
theorem dX7_clearedBy_70 : decode cX7_clearedBy 70 = .ok (.iconst 0, 1) := dk_3 (dk_at dksX7_clearedBy_2 23 rfl rfl)
theorem dX7_clearedBy_71 : decode cX7_clearedBy 71 = .ok (.iload 4, 2) := dk_21 4 (dk_at dksX7_clearedBy_3 0 rfl rfl)
theorem dX7_clearedBy_73 : decode cX7_clearedBy 73 = .ok (.invokestatic 269, 3) := dk_184 1 13 (dk_at dksX7_clearedBy_3 2 rfl rfl)
theorem dX7_clearedBy_76 : decode cX7_clearedBy 76 = .ok (.iadd, 1) := dk_96 (dk_at dksX7_clearedBy_3 5 rfl rfl)
theorem dX7_clearedBy_77 : decode cX7_clearedBy 77 = .ok (.istore_n 2, 1) := dk_61 (dk_at dksX7_clearedBy_3 6 rfl rfl)
theorem dX7_clearedBy_78 : decode cX7_clearedBy 78 = .ok (.iinc 3 1, 3) := dk_132 3 1 (dk_at dksX7_clearedBy_3 7 rfl rfl)
theorem dX7_clearedBy_81 : decode cX7_clearedBy 81 = .ok (.goto (-77), 3) := dk_167 255 179 (dk_at dksX7_clearedBy_3 10 rfl rfl)
theorem dX7_clearedBy_84 : decode cX7_clearedBy 84 = .ok (.iload_n 2, 1) := dk_28 (dk_at dksX7_clearedBy_3 13 rfl rfl)
theorem dX7_clearedBy_85 : decode cX7_clearedBy 85 = .ok (.ireturn, 1) := dk_172 (dk_at dksX7_clearedBy_3 14 rfl rfl)
abbrev cX7_ring : ByteArray := prog_20_method_107_code
def yX7_ring : MethodName := ⟨RX7, "ring", "(I)Z"⟩
def dkwX7_ring_5 : List UInt8 := [128, 61, 132, 4, 1, 167, 255, 167, 29, 27, 184, 0, 56, 172]
abbrev dktX7_ring_5 : List UInt8 := dkwX7_ring_5 ++ []
def dkwX7_ring_4 : List UInt8 := [158, 0, 10, 29, 4, 21, 6, 120, 128, 62, 132, 6, 1, 167, 255, 207, 132, 5, 1, 167, 255, 187, 28, 29]
abbrev dktX7_ring_4 : List UInt8 := dkwX7_ring_4 ++ dktX7_ring_5
def dkwX7_ring_3 : List UInt8 := [21, 5, 184, 0, 56, 153, 0, 29, 21, 6, 21, 5, 159, 0, 22, 42, 21, 5, 21, 6, 2, 182, 1, 119]
abbrev dktX7_ring_3 : List UInt8 := dkwX7_ring_3 ++ dktX7_ring_4
def dkwX7_ring_2 : List UInt8 := [180, 0, 7, 6, 46, 162, 0, 64, 3, 54, 6, 21, 6, 42, 180, 0, 7, 6, 46, 162, 0, 44, 28]
abbrev dktX7_ring_2 : List UInt8 := dkwX7_ring_2 ++ dktX7_ring_3
def dkwX7_ring_1 : List UInt8 := [3, 172, 4, 27, 120, 61, 3, 62, 3, 54, 4, 21, 4, 16, 6, 162, 0, 88, 3, 54, 5, 21, 5, 42]
abbrev dktX7_ring_1 : List UInt8 := dkwX7_ring_1 ++ dktX7_ring_2
def dkwX7_ring_0 : List UInt8 := [42, 42, 27, 182, 1, 50, 154, 0, 7, 4, 167, 0, 4, 3, 181, 0, 45, 42, 180, 0, 45, 158, 0, 5]
abbrev dktX7_ring_0 : List UInt8 := dkwX7_ring_0 ++ dktX7_ring_1
theorem dksX7_ring_0 : cX7_ring.data.toList.drop 0 = dktX7_ring_0 := by decide +kernel
theorem dksX7_ring_1 : cX7_ring.data.toList.drop 24 = dktX7_ring_1 := dk_seg dksX7_ring_0 24 rfl rfl
theorem dksX7_ring_2 : cX7_ring.data.toList.drop 48 = dktX7_ring_2 := dk_seg dksX7_ring_1 24 rfl rfl
theorem dksX7_ring_3 : cX7_ring.data.toList.drop 71 = dktX7_ring_3 := dk_seg dksX7_ring_2 23 rfl rfl
theorem dksX7_ring_4 : cX7_ring.data.toList.drop 95 = dktX7_ring_4 := dk_seg dksX7_ring_3 24 rfl rfl
theorem dksX7_ring_5 : cX7_ring.data.toList.drop 119 = dktX7_ring_5 := dk_seg dksX7_ring_4 24 rfl rfl
theorem dX7_ring_0 : decode cX7_ring 0 = .ok (.aload_n 0, 1) := dk_42 (dk_at dksX7_ring_0 0 rfl rfl)
theorem dX7_ring_1 : decode cX7_ring 1 = .ok (.aload_n 0, 1) := dk_42 (dk_at dksX7_ring_0 1 rfl rfl)
theorem dX7_ring_2 : decode cX7_ring 2 = .ok (.iload_n 1, 1) := dk_27 (dk_at dksX7_ring_0 2 rfl rfl)
theorem dX7_ring_3 : decode cX7_ring 3 = .ok (.invokevirtual 306, 3) := dk_182 1 50 (dk_at dksX7_ring_0 3 rfl rfl)
theorem dX7_ring_6 : decode cX7_ring 6 = .ok (.ifCond .ne 7, 3) := dk_154 0 7 (dk_at dksX7_ring_0 6 rfl rfl)
theorem dX7_ring_9 : decode cX7_ring 9 = .ok (.iconst 1, 1) := dk_4 (dk_at dksX7_ring_0 9 rfl rfl)
theorem dX7_ring_10 : decode cX7_ring 10 = .ok (.goto 4, 3) := dk_167 0 4 (dk_at dksX7_ring_0 10 rfl rfl)
theorem dX7_ring_13 : decode cX7_ring 13 = .ok (.iconst 0, 1) := dk_3 (dk_at dksX7_ring_0 13 rfl rfl)
theorem dX7_ring_14 : decode cX7_ring 14 = .ok (.putfield 45, 3) := dk_181 0 45 (dk_at dksX7_ring_0 14 rfl rfl)
theorem dX7_ring_17 : decode cX7_ring 17 = .ok (.aload_n 0, 1) := dk_42 (dk_at dksX7_ring_0 17 rfl rfl)
theorem dX7_ring_18 : decode cX7_ring 18 = .ok (.getfield 45, 3) := dk_180 0 45 (dk_at dksX7_ring_0 18 rfl rfl)
theorem dX7_ring_21 : decode cX7_ring 21 = .ok (.ifCond .le 5, 3) := dk_158 0 5 (dk_at dksX7_ring_0 21 rfl rfl)
theorem dX7_ring_24 : decode cX7_ring 24 = .ok (.iconst 0, 1) := dk_3 (dk_at dksX7_ring_1 0 rfl rfl)
theorem dX7_ring_25 : decode cX7_ring 25 = .ok (.ireturn, 1) := dk_172 (dk_at dksX7_ring_1 1 rfl rfl)
theorem dX7_ring_26 : decode cX7_ring 26 = .ok (.iconst 1, 1) := dk_4 (dk_at dksX7_ring_1 2 rfl rfl)
theorem dX7_ring_27 : decode cX7_ring 27 = .ok (.iload_n 1, 1) := dk_27 (dk_at dksX7_ring_1 3 rfl rfl)
theorem dX7_ring_28 : decode cX7_ring 28 = .ok (.ishl, 1) := dk_120 (dk_at dksX7_ring_1 4 rfl rfl)
theorem dX7_ring_29 : decode cX7_ring 29 = .ok (.istore_n 2, 1) := dk_61 (dk_at dksX7_ring_1 5 rfl rfl)
theorem dX7_ring_30 : decode cX7_ring 30 = .ok (.iconst 0, 1) := dk_3 (dk_at dksX7_ring_1 6 rfl rfl)
theorem dX7_ring_31 : decode cX7_ring 31 = .ok (.istore_n 3, 1) := dk_62 (dk_at dksX7_ring_1 7 rfl rfl)
theorem dX7_ring_32 : decode cX7_ring 32 = .ok (.iconst 0, 1) := dk_3 (dk_at dksX7_ring_1 8 rfl rfl)
theorem dX7_ring_33 : decode cX7_ring 33 = .ok (.istore 4, 2) := dk_54 4 (dk_at dksX7_ring_1 9 rfl rfl)
theorem dX7_ring_35 : decode cX7_ring 35 = .ok (.iload 4, 2) := dk_21 4 (dk_at dksX7_ring_1 11 rfl rfl)
theorem dX7_ring_37 : decode cX7_ring 37 = .ok (.bipush 6, 2) := dk_16 6 (dk_at dksX7_ring_1 13 rfl rfl)
theorem dX7_ring_39 : decode cX7_ring 39 = .ok (.if_icmp .ge 88, 3) := dk_162 0 88 (dk_at dksX7_ring_1 15 rfl rfl)
theorem dX7_ring_42 : decode cX7_ring 42 = .ok (.iconst 0, 1) := dk_3 (dk_at dksX7_ring_1 18 rfl rfl)
theorem dX7_ring_43 : decode cX7_ring 43 = .ok (.istore 5, 2) := dk_54 5 (dk_at dksX7_ring_1 19 rfl rfl)
theorem dX7_ring_45 : decode cX7_ring 45 = .ok (.iload 5, 2) := dk_21 5 (dk_at dksX7_ring_1 21 rfl rfl)
theorem dX7_ring_47 : decode cX7_ring 47 = .ok (.aload_n 0, 1) := dk_42 (dk_at dksX7_ring_1 23 rfl rfl)
theorem dX7_ring_48 : decode cX7_ring 48 = .ok (.getfield 7, 3) := dk_180 0 7 (dk_at dksX7_ring_2 0 rfl rfl)
theorem dX7_ring_51 : decode cX7_ring 51 = .ok (.iconst 3, 1) := dk_6 (dk_at dksX7_ring_2 3 rfl rfl)
theorem dX7_ring_52 : decode cX7_ring 52 = .ok (.iaload, 1) := dk_46 (dk_at dksX7_ring_2 4 rfl rfl)
theorem dX7_ring_53 : decode cX7_ring 53 = .ok (.if_icmp .ge 64, 3) := dk_162 0 64 (dk_at dksX7_ring_2 5 rfl rfl)
theorem dX7_ring_56 : decode cX7_ring 56 = .ok (.iconst 0, 1) := dk_3 (dk_at dksX7_ring_2 8 rfl rfl)
theorem dX7_ring_57 : decode cX7_ring 57 = .ok (.istore 6, 2) := dk_54 6 (dk_at dksX7_ring_2 9 rfl rfl)
theorem dX7_ring_59 : decode cX7_ring 59 = .ok (.iload 6, 2) := dk_21 6 (dk_at dksX7_ring_2 11 rfl rfl)
theorem dX7_ring_61 : decode cX7_ring 61 = .ok (.aload_n 0, 1) := dk_42 (dk_at dksX7_ring_2 13 rfl rfl)
theorem dX7_ring_62 : decode cX7_ring 62 = .ok (.getfield 7, 3) := dk_180 0 7 (dk_at dksX7_ring_2 14 rfl rfl)
theorem dX7_ring_65 : decode cX7_ring 65 = .ok (.iconst 3, 1) := dk_6 (dk_at dksX7_ring_2 17 rfl rfl)
theorem dX7_ring_66 : decode cX7_ring 66 = .ok (.iaload, 1) := dk_46 (dk_at dksX7_ring_2 18 rfl rfl)
theorem dX7_ring_67 : decode cX7_ring 67 = .ok (.if_icmp .ge 44, 3) := dk_162 0 44 (dk_at dksX7_ring_2 19 rfl rfl)
theorem dX7_ring_70 : decode cX7_ring 70 = .ok (.iload_n 2, 1) := dk_28 (dk_at dksX7_ring_2 22 rfl rfl)
theorem dX7_ring_71 : decode cX7_ring 71 = .ok (.iload 5, 2) := dk_21 5 (dk_at dksX7_ring_3 0 rfl rfl)
theorem dX7_ring_73 : decode cX7_ring 73 = .ok (.invokestatic 56, 3) := dk_184 0 56 (dk_at dksX7_ring_3 2 rfl rfl)
theorem dX7_ring_76 : decode cX7_ring 76 = .ok (.ifCond .eq 29, 3) := dk_153 0 29 (dk_at dksX7_ring_3 5 rfl rfl)
theorem dX7_ring_79 : decode cX7_ring 79 = .ok (.iload 6, 2) := dk_21 6 (dk_at dksX7_ring_3 8 rfl rfl)
theorem dX7_ring_81 : decode cX7_ring 81 = .ok (.iload 5, 2) := dk_21 5 (dk_at dksX7_ring_3 10 rfl rfl)
theorem dX7_ring_83 : decode cX7_ring 83 = .ok (.if_icmp .eq 22, 3) := dk_159 0 22 (dk_at dksX7_ring_3 12 rfl rfl)
theorem dX7_ring_86 : decode cX7_ring 86 = .ok (.aload_n 0, 1) := dk_42 (dk_at dksX7_ring_3 15 rfl rfl)
theorem dX7_ring_87 : decode cX7_ring 87 = .ok (.iload 5, 2) := dk_21 5 (dk_at dksX7_ring_3 16 rfl rfl)
theorem dX7_ring_89 : decode cX7_ring 89 = .ok (.iload 6, 2) := dk_21 6 (dk_at dksX7_ring_3 18 rfl rfl)
theorem dX7_ring_91 : decode cX7_ring 91 = .ok (.iconst (-1), 1) := dk_2 (dk_at dksX7_ring_3 20 rfl rfl)
theorem dX7_ring_92 : decode cX7_ring 92 = .ok (.invokevirtual 375, 3) := dk_182 1 119 (dk_at dksX7_ring_3 21 rfl rfl)
theorem dX7_ring_95 : decode cX7_ring 95 = .ok (.ifCond .le 10, 3) := dk_158 0 10 (dk_at dksX7_ring_4 0 rfl rfl)
theorem dX7_ring_98 : decode cX7_ring 98 = .ok (.iload_n 3, 1) := dk_29 (dk_at dksX7_ring_4 3 rfl rfl)
theorem dX7_ring_99 : decode cX7_ring 99 = .ok (.iconst 1, 1) := dk_4 (dk_at dksX7_ring_4 4 rfl rfl)
theorem dX7_ring_100 : decode cX7_ring 100 = .ok (.iload 6, 2) := dk_21 6 (dk_at dksX7_ring_4 5 rfl rfl)
theorem dX7_ring_102 : decode cX7_ring 102 = .ok (.ishl, 1) := dk_120 (dk_at dksX7_ring_4 7 rfl rfl)
theorem dX7_ring_103 : decode cX7_ring 103 = .ok (.ior, 1) := dk_128 (dk_at dksX7_ring_4 8 rfl rfl)
theorem dX7_ring_104 : decode cX7_ring 104 = .ok (.istore_n 3, 1) := dk_62 (dk_at dksX7_ring_4 9 rfl rfl)
theorem dX7_ring_105 : decode cX7_ring 105 = .ok (.iinc 6 1, 3) := dk_132 6 1 (dk_at dksX7_ring_4 10 rfl rfl)
theorem dX7_ring_108 : decode cX7_ring 108 = .ok (.goto (-49), 3) := dk_167 255 207 (dk_at dksX7_ring_4 13 rfl rfl)
theorem dX7_ring_111 : decode cX7_ring 111 = .ok (.iinc 5 1, 3) := dk_132 5 1 (dk_at dksX7_ring_4 16 rfl rfl)
theorem dX7_ring_114 : decode cX7_ring 114 = .ok (.goto (-69), 3) := dk_167 255 187 (dk_at dksX7_ring_4 19 rfl rfl)
theorem dX7_ring_117 : decode cX7_ring 117 = .ok (.iload_n 2, 1) := dk_28 (dk_at dksX7_ring_4 22 rfl rfl)
theorem dX7_ring_118 : decode cX7_ring 118 = .ok (.iload_n 3, 1) := dk_29 (dk_at dksX7_ring_4 23 rfl rfl)
theorem dX7_ring_119 : decode cX7_ring 119 = .ok (.ior, 1) := dk_128 (dk_at dksX7_ring_5 0 rfl rfl)
theorem dX7_ring_120 : decode cX7_ring 120 = .ok (.istore_n 2, 1) := dk_61 (dk_at dksX7_ring_5 1 rfl rfl)
theorem dX7_ring_121 : decode cX7_ring 121 = .ok (.iinc 4 1, 3) := dk_132 4 1 (dk_at dksX7_ring_5 2 rfl rfl)
theorem dX7_ring_124 : decode cX7_ring 124 = .ok (.goto (-89), 3) := dk_167 255 167 (dk_at dksX7_ring_5 5 rfl rfl)
theorem dX7_ring_127 : decode cX7_ring 127 = .ok (.iload_n 3, 1) := dk_29 (dk_at dksX7_ring_5 8 rfl rfl)
theorem dX7_ring_128 : decode cX7_ring 128 = .ok (.iload_n 1, 1) := dk_27 (dk_at dksX7_ring_5 9 rfl rfl)
theorem dX7_ring_129 : decode cX7_ring 129 = .ok (.invokestatic 56, 3) := dk_184 0 56 (dk_at dksX7_ring_5 10 rfl rfl)
theorem dX7_ring_132 : decode cX7_ring 132 = .ok (.ireturn, 1) := dk_172 (dk_at dksX7_ring_5 13 rfl rfl)
abbrev cX7_pivot : ByteArray := prog_20_method_108_code
def yX7_pivot : MethodName := ⟨RX7, "pivot", "()I"⟩
def dkwX7_pivot_1 : List UInt8 := [42, 28, 182, 1, 122, 42, 27, 182, 1, 122, 162, 0, 5, 28, 60, 132, 2, 1, 167, 255, 223, 27, 172]
abbrev dktX7_pivot_1 : List UInt8 := dkwX7_pivot_1 ++ []
def dkwX7_pivot_0 : List UInt8 := [42, 3, 181, 0, 45, 2, 60, 3, 61, 28, 42, 180, 0, 7, 6, 46, 162, 0, 29, 27, 2, 159, 0, 16]
abbrev dktX7_pivot_0 : List UInt8 := dkwX7_pivot_0 ++ dktX7_pivot_1
theorem dksX7_pivot_0 : cX7_pivot.data.toList.drop 0 = dktX7_pivot_0 := by decide +kernel
theorem dksX7_pivot_1 : cX7_pivot.data.toList.drop 24 = dktX7_pivot_1 := dk_seg dksX7_pivot_0 24 rfl rfl
theorem dX7_pivot_0 : decode cX7_pivot 0 = .ok (.aload_n 0, 1) := dk_42 (dk_at dksX7_pivot_0 0 rfl rfl)
theorem dX7_pivot_1 : decode cX7_pivot 1 = .ok (.iconst 0, 1) := dk_3 (dk_at dksX7_pivot_0 1 rfl rfl)
theorem dX7_pivot_2 : decode cX7_pivot 2 = .ok (.putfield 45, 3) := dk_181 0 45 (dk_at dksX7_pivot_0 2 rfl rfl)
theorem dX7_pivot_5 : decode cX7_pivot 5 = .ok (.iconst (-1), 1) := dk_2 (dk_at dksX7_pivot_0 5 rfl rfl)
theorem dX7_pivot_6 : decode cX7_pivot 6 = .ok (.istore_n 1, 1) := dk_60 (dk_at dksX7_pivot_0 6 rfl rfl)
theorem dX7_pivot_7 : decode cX7_pivot 7 = .ok (.iconst 0, 1) := dk_3 (dk_at dksX7_pivot_0 7 rfl rfl)
theorem dX7_pivot_8 : decode cX7_pivot 8 = .ok (.istore_n 2, 1) := dk_61 (dk_at dksX7_pivot_0 8 rfl rfl)
theorem dX7_pivot_9 : decode cX7_pivot 9 = .ok (.iload_n 2, 1) := dk_28 (dk_at dksX7_pivot_0 9 rfl rfl)
theorem dX7_pivot_10 : decode cX7_pivot 10 = .ok (.aload_n 0, 1) := dk_42 (dk_at dksX7_pivot_0 10 rfl rfl)
theorem dX7_pivot_11 : decode cX7_pivot 11 = .ok (.getfield 7, 3) := dk_180 0 7 (dk_at dksX7_pivot_0 11 rfl rfl)
theorem dX7_pivot_14 : decode cX7_pivot 14 = .ok (.iconst 3, 1) := dk_6 (dk_at dksX7_pivot_0 14 rfl rfl)
theorem dX7_pivot_15 : decode cX7_pivot 15 = .ok (.iaload, 1) := dk_46 (dk_at dksX7_pivot_0 15 rfl rfl)
theorem dX7_pivot_16 : decode cX7_pivot 16 = .ok (.if_icmp .ge 29, 3) := dk_162 0 29 (dk_at dksX7_pivot_0 16 rfl rfl)
theorem dX7_pivot_19 : decode cX7_pivot 19 = .ok (.iload_n 1, 1) := dk_27 (dk_at dksX7_pivot_0 19 rfl rfl)
theorem dX7_pivot_20 : decode cX7_pivot 20 = .ok (.iconst (-1), 1) := dk_2 (dk_at dksX7_pivot_0 20 rfl rfl)
theorem dX7_pivot_21 : decode cX7_pivot 21 = .ok (.if_icmp .eq 16, 3) := dk_159 0 16 (dk_at dksX7_pivot_0 21 rfl rfl)
theorem dX7_pivot_24 : decode cX7_pivot 24 = .ok (.aload_n 0, 1) := dk_42 (dk_at dksX7_pivot_1 0 rfl rfl)
theorem dX7_pivot_25 : decode cX7_pivot 25 = .ok (.iload_n 2, 1) := dk_28 (dk_at dksX7_pivot_1 1 rfl rfl)
theorem dX7_pivot_26 : decode cX7_pivot 26 = .ok (.invokevirtual 378, 3) := dk_182 1 122 (dk_at dksX7_pivot_1 2 rfl rfl)
theorem dX7_pivot_29 : decode cX7_pivot 29 = .ok (.aload_n 0, 1) := dk_42 (dk_at dksX7_pivot_1 5 rfl rfl)
theorem dX7_pivot_30 : decode cX7_pivot 30 = .ok (.iload_n 1, 1) := dk_27 (dk_at dksX7_pivot_1 6 rfl rfl)
theorem dX7_pivot_31 : decode cX7_pivot 31 = .ok (.invokevirtual 378, 3) := dk_182 1 122 (dk_at dksX7_pivot_1 7 rfl rfl)
theorem dX7_pivot_34 : decode cX7_pivot 34 = .ok (.if_icmp .ge 5, 3) := dk_162 0 5 (dk_at dksX7_pivot_1 10 rfl rfl)
theorem dX7_pivot_37 : decode cX7_pivot 37 = .ok (.iload_n 2, 1) := dk_28 (dk_at dksX7_pivot_1 13 rfl rfl)
theorem dX7_pivot_38 : decode cX7_pivot 38 = .ok (.istore_n 1, 1) := dk_60 (dk_at dksX7_pivot_1 14 rfl rfl)
theorem dX7_pivot_39 : decode cX7_pivot 39 = .ok (.iinc 2 1, 3) := dk_132 2 1 (dk_at dksX7_pivot_1 15 rfl rfl)
theorem dX7_pivot_42 : decode cX7_pivot 42 = .ok (.goto (-33), 3) := dk_167 255 223 (dk_at dksX7_pivot_1 18 rfl rfl)
theorem dX7_pivot_45 : decode cX7_pivot 45 = .ok (.iload_n 1, 1) := dk_27 (dk_at dksX7_pivot_1 21 rfl rfl)
theorem dX7_pivot_46 : decode cX7_pivot 46 = .ok (.ireturn, 1) := dk_172 (dk_at dksX7_pivot_1 22 rfl rfl)
abbrev cX7_buyers : ByteArray := prog_20_method_112_code
def yX7_buyers : MethodName := ⟨RX7, "buyers", "(I)I"⟩
def dkwX7_buyers_7 : List UInt8 := [62, 132, 5, 255, 167, 255, 191, 28, 4, 29, 120, 128, 61, 132, 4, 1, 167, 255, 129, 29, 172]
abbrev dktX7_buyers_7 : List UInt8 := dkwX7_buyers_7 ++ []
def dkwX7_buyers_6 : List UInt8 := [21, 5, 120, 128, 96, 46, 96, 42, 180, 0, 39, 16, 64, 21, 4, 104, 28, 96, 46, 160, 0, 6, 21, 5]
abbrev dktX7_buyers_6 : List UInt8 := dkwX7_buyers_6 ++ dktX7_buyers_7
def dkwX7_buyers_5 : List UInt8 := [153, 0, 48, 42, 180, 0, 42, 21, 4, 46, 42, 180, 0, 39, 16, 64, 21, 4, 4, 96, 104, 28, 4]
abbrev dktX7_buyers_5 : List UInt8 := dkwX7_buyers_5 ++ dktX7_buyers_6
def dkwX7_buyers_4 : List UInt8 := [180, 0, 7, 6, 46, 4, 100, 54, 5, 21, 5, 155, 0, 66, 42, 21, 4, 21, 5, 28, 182, 1, 125]
abbrev dktX7_buyers_4 : List UInt8 := dkwX7_buyers_4 ++ dktX7_buyers_5
def dkwX7_buyers_3 : List UInt8 := [96, 104, 28, 96, 46, 42, 180, 0, 39, 16, 64, 21, 4, 104, 28, 96, 46, 160, 0, 6, 167, 0, 87, 42]
abbrev dktX7_buyers_3 : List UInt8 := dkwX7_buyers_3 ++ dktX7_buyers_4
def dkwX7_buyers_2 : List UInt8 := [3, 61, 2, 62, 3, 54, 4, 21, 4, 27, 163, 0, 127, 2, 62, 42, 180, 0, 39, 16, 64, 21, 4, 4]
abbrev dktX7_buyers_2 : List UInt8 := dkwX7_buyers_2 ++ dktX7_buyers_3
def dkwX7_buyers_1 : List UInt8 := [180, 0, 45, 158, 0, 5, 3, 172, 42, 182, 1, 128, 27, 2, 160, 0, 10, 42, 180, 0, 39, 3, 46, 172]
abbrev dktX7_buyers_1 : List UInt8 := dkwX7_buyers_1 ++ dktX7_buyers_2
def dkwX7_buyers_0 : List UInt8 := [42, 27, 2, 159, 0, 15, 42, 27, 182, 1, 69, 154, 0, 7, 4, 167, 0, 4, 3, 181, 0, 45, 42]
abbrev dktX7_buyers_0 : List UInt8 := dkwX7_buyers_0 ++ dktX7_buyers_1
theorem dksX7_buyers_0 : cX7_buyers.data.toList.drop 0 = dktX7_buyers_0 := by decide +kernel
theorem dksX7_buyers_1 : cX7_buyers.data.toList.drop 23 = dktX7_buyers_1 := dk_seg dksX7_buyers_0 23 rfl rfl
theorem dksX7_buyers_2 : cX7_buyers.data.toList.drop 47 = dktX7_buyers_2 := dk_seg dksX7_buyers_1 24 rfl rfl
theorem dksX7_buyers_3 : cX7_buyers.data.toList.drop 71 = dktX7_buyers_3 := dk_seg dksX7_buyers_2 24 rfl rfl
theorem dksX7_buyers_4 : cX7_buyers.data.toList.drop 95 = dktX7_buyers_4 := dk_seg dksX7_buyers_3 24 rfl rfl
theorem dksX7_buyers_5 : cX7_buyers.data.toList.drop 118 = dktX7_buyers_5 := dk_seg dksX7_buyers_4 23 rfl rfl
theorem dksX7_buyers_6 : cX7_buyers.data.toList.drop 141 = dktX7_buyers_6 := dk_seg dksX7_buyers_5 23 rfl rfl
theorem dksX7_buyers_7 : cX7_buyers.data.toList.drop 165 = dktX7_buyers_7 := dk_seg dksX7_buyers_6 24 rfl rfl
theorem dX7_buyers_0 : decode cX7_buyers 0 = .ok (.aload_n 0, 1) := dk_42 (dk_at dksX7_buyers_0 0 rfl rfl)
theorem dX7_buyers_1 : decode cX7_buyers 1 = .ok (.iload_n 1, 1) := dk_27 (dk_at dksX7_buyers_0 1 rfl rfl)
theorem dX7_buyers_2 : decode cX7_buyers 2 = .ok (.iconst (-1), 1) := dk_2 (dk_at dksX7_buyers_0 2 rfl rfl)
theorem dX7_buyers_3 : decode cX7_buyers 3 = .ok (.if_icmp .eq 15, 3) := dk_159 0 15 (dk_at dksX7_buyers_0 3 rfl rfl)
theorem dX7_buyers_6 : decode cX7_buyers 6 = .ok (.aload_n 0, 1) := dk_42 (dk_at dksX7_buyers_0 6 rfl rfl)
theorem dX7_buyers_7 : decode cX7_buyers 7 = .ok (.iload_n 1, 1) := dk_27 (dk_at dksX7_buyers_0 7 rfl rfl)
theorem dX7_buyers_8 : decode cX7_buyers 8 = .ok (.invokevirtual 325, 3) := dk_182 1 69 (dk_at dksX7_buyers_0 8 rfl rfl)
theorem dX7_buyers_11 : decode cX7_buyers 11 = .ok (.ifCond .ne 7, 3) := dk_154 0 7 (dk_at dksX7_buyers_0 11 rfl rfl)
theorem dX7_buyers_14 : decode cX7_buyers 14 = .ok (.iconst 1, 1) := dk_4 (dk_at dksX7_buyers_0 14 rfl rfl)
theorem dX7_buyers_15 : decode cX7_buyers 15 = .ok (.goto 4, 3) := dk_167 0 4 (dk_at dksX7_buyers_0 15 rfl rfl)
theorem dX7_buyers_18 : decode cX7_buyers 18 = .ok (.iconst 0, 1) := dk_3 (dk_at dksX7_buyers_0 18 rfl rfl)
theorem dX7_buyers_19 : decode cX7_buyers 19 = .ok (.putfield 45, 3) := dk_181 0 45 (dk_at dksX7_buyers_0 19 rfl rfl)
theorem dX7_buyers_22 : decode cX7_buyers 22 = .ok (.aload_n 0, 1) := dk_42 (dk_at dksX7_buyers_0 22 rfl rfl)
theorem dX7_buyers_23 : decode cX7_buyers 23 = .ok (.getfield 45, 3) := dk_180 0 45 (dk_at dksX7_buyers_1 0 rfl rfl)
theorem dX7_buyers_26 : decode cX7_buyers 26 = .ok (.ifCond .le 5, 3) := dk_158 0 5 (dk_at dksX7_buyers_1 3 rfl rfl)
theorem dX7_buyers_29 : decode cX7_buyers 29 = .ok (.iconst 0, 1) := dk_3 (dk_at dksX7_buyers_1 6 rfl rfl)
theorem dX7_buyers_30 : decode cX7_buyers 30 = .ok (.ireturn, 1) := dk_172 (dk_at dksX7_buyers_1 7 rfl rfl)
theorem dX7_buyers_31 : decode cX7_buyers 31 = .ok (.aload_n 0, 1) := dk_42 (dk_at dksX7_buyers_1 8 rfl rfl)
theorem dX7_buyers_32 : decode cX7_buyers 32 = .ok (.invokevirtual 384, 3) := dk_182 1 128 (dk_at dksX7_buyers_1 9 rfl rfl)
theorem dX7_buyers_35 : decode cX7_buyers 35 = .ok (.iload_n 1, 1) := dk_27 (dk_at dksX7_buyers_1 12 rfl rfl)
theorem dX7_buyers_36 : decode cX7_buyers 36 = .ok (.iconst (-1), 1) := dk_2 (dk_at dksX7_buyers_1 13 rfl rfl)
theorem dX7_buyers_37 : decode cX7_buyers 37 = .ok (.if_icmp .ne 10, 3) := dk_160 0 10 (dk_at dksX7_buyers_1 14 rfl rfl)
theorem dX7_buyers_40 : decode cX7_buyers 40 = .ok (.aload_n 0, 1) := dk_42 (dk_at dksX7_buyers_1 17 rfl rfl)
theorem dX7_buyers_41 : decode cX7_buyers 41 = .ok (.getfield 39, 3) := dk_180 0 39 (dk_at dksX7_buyers_1 18 rfl rfl)
theorem dX7_buyers_44 : decode cX7_buyers 44 = .ok (.iconst 0, 1) := dk_3 (dk_at dksX7_buyers_1 21 rfl rfl)
theorem dX7_buyers_45 : decode cX7_buyers 45 = .ok (.iaload, 1) := dk_46 (dk_at dksX7_buyers_1 22 rfl rfl)
theorem dX7_buyers_46 : decode cX7_buyers 46 = .ok (.ireturn, 1) := dk_172 (dk_at dksX7_buyers_1 23 rfl rfl)
theorem dX7_buyers_47 : decode cX7_buyers 47 = .ok (.iconst 0, 1) := dk_3 (dk_at dksX7_buyers_2 0 rfl rfl)
theorem dX7_buyers_48 : decode cX7_buyers 48 = .ok (.istore_n 2, 1) := dk_61 (dk_at dksX7_buyers_2 1 rfl rfl)
theorem dX7_buyers_49 : decode cX7_buyers 49 = .ok (.iconst (-1), 1) := dk_2 (dk_at dksX7_buyers_2 2 rfl rfl)
theorem dX7_buyers_50 : decode cX7_buyers 50 = .ok (.istore_n 3, 1) := dk_62 (dk_at dksX7_buyers_2 3 rfl rfl)
theorem dX7_buyers_51 : decode cX7_buyers 51 = .ok (.iconst 0, 1) := dk_3 (dk_at dksX7_buyers_2 4 rfl rfl)
theorem dX7_buyers_52 : decode cX7_buyers 52 = .ok (.istore 4, 2) := dk_54 4 (dk_at dksX7_buyers_2 5 rfl rfl)
theorem dX7_buyers_54 : decode cX7_buyers 54 = .ok (.iload 4, 2) := dk_21 4 (dk_at dksX7_buyers_2 7 rfl rfl)
theorem dX7_buyers_56 : decode cX7_buyers 56 = .ok (.iload_n 1, 1) := dk_27 (dk_at dksX7_buyers_2 9 rfl rfl)
theorem dX7_buyers_57 : decode cX7_buyers 57 = .ok (.if_icmp .gt 127, 3) := dk_163 0 127 (dk_at dksX7_buyers_2 10 rfl rfl)
theorem dX7_buyers_60 : decode cX7_buyers 60 = .ok (.iconst (-1), 1) := dk_2 (dk_at dksX7_buyers_2 13 rfl rfl)
theorem dX7_buyers_61 : decode cX7_buyers 61 = .ok (.istore_n 3, 1) := dk_62 (dk_at dksX7_buyers_2 14 rfl rfl)
theorem dX7_buyers_62 : decode cX7_buyers 62 = .ok (.aload_n 0, 1) := dk_42 (dk_at dksX7_buyers_2 15 rfl rfl)
theorem dX7_buyers_63 : decode cX7_buyers 63 = .ok (.getfield 39, 3) := dk_180 0 39 (dk_at dksX7_buyers_2 16 rfl rfl)
theorem dX7_buyers_66 : decode cX7_buyers 66 = .ok (.bipush 64, 2) := dk_16 64 (dk_at dksX7_buyers_2 19 rfl rfl)
theorem dX7_buyers_68 : decode cX7_buyers 68 = .ok (.iload 4, 2) := dk_21 4 (dk_at dksX7_buyers_2 21 rfl rfl)
theorem dX7_buyers_70 : decode cX7_buyers 70 = .ok (.iconst 1, 1) := dk_4 (dk_at dksX7_buyers_2 23 rfl rfl)
theorem dX7_buyers_71 : decode cX7_buyers 71 = .ok (.iadd, 1) := dk_96 (dk_at dksX7_buyers_3 0 rfl rfl)
theorem dX7_buyers_72 : decode cX7_buyers 72 = .ok (.imul, 1) := dk_104 (dk_at dksX7_buyers_3 1 rfl rfl)
theorem dX7_buyers_73 : decode cX7_buyers 73 = .ok (.iload_n 2, 1) := dk_28 (dk_at dksX7_buyers_3 2 rfl rfl)
theorem dX7_buyers_74 : decode cX7_buyers 74 = .ok (.iadd, 1) := dk_96 (dk_at dksX7_buyers_3 3 rfl rfl)
theorem dX7_buyers_75 : decode cX7_buyers 75 = .ok (.iaload, 1) := dk_46 (dk_at dksX7_buyers_3 4 rfl rfl)
theorem dX7_buyers_76 : decode cX7_buyers 76 = .ok (.aload_n 0, 1) := dk_42 (dk_at dksX7_buyers_3 5 rfl rfl)
theorem dX7_buyers_77 : decode cX7_buyers 77 = .ok (.getfield 39, 3) := dk_180 0 39 (dk_at dksX7_buyers_3 6 rfl rfl)
theorem dX7_buyers_80 : decode cX7_buyers 80 = .ok (.bipush 64, 2) := dk_16 64 (dk_at dksX7_buyers_3 9 rfl rfl)
theorem dX7_buyers_82 : decode cX7_buyers 82 = .ok (.iload 4, 2) := dk_21 4 (dk_at dksX7_buyers_3 11 rfl rfl)
theorem dX7_buyers_84 : decode cX7_buyers 84 = .ok (.imul, 1) := dk_104 (dk_at dksX7_buyers_3 13 rfl rfl)
theorem dX7_buyers_85 : decode cX7_buyers 85 = .ok (.iload_n 2, 1) := dk_28 (dk_at dksX7_buyers_3 14 rfl rfl)
theorem dX7_buyers_86 : decode cX7_buyers 86 = .ok (.iadd, 1) := dk_96 (dk_at dksX7_buyers_3 15 rfl rfl)
theorem dX7_buyers_87 : decode cX7_buyers 87 = .ok (.iaload, 1) := dk_46 (dk_at dksX7_buyers_3 16 rfl rfl)
theorem dX7_buyers_88 : decode cX7_buyers 88 = .ok (.if_icmp .ne 6, 3) := dk_160 0 6 (dk_at dksX7_buyers_3 17 rfl rfl)
theorem dX7_buyers_91 : decode cX7_buyers 91 = .ok (.goto 87, 3) := dk_167 0 87 (dk_at dksX7_buyers_3 20 rfl rfl)
theorem dX7_buyers_94 : decode cX7_buyers 94 = .ok (.aload_n 0, 1) := dk_42 (dk_at dksX7_buyers_3 23 rfl rfl)
theorem dX7_buyers_95 : decode cX7_buyers 95 = .ok (.getfield 7, 3) := dk_180 0 7 (dk_at dksX7_buyers_4 0 rfl rfl)
theorem dX7_buyers_98 : decode cX7_buyers 98 = .ok (.iconst 3, 1) := dk_6 (dk_at dksX7_buyers_4 3 rfl rfl)
theorem dX7_buyers_99 : decode cX7_buyers 99 = .ok (.iaload, 1) := dk_46 (dk_at dksX7_buyers_4 4 rfl rfl)
theorem dX7_buyers_100 : decode cX7_buyers 100 = .ok (.iconst 1, 1) := dk_4 (dk_at dksX7_buyers_4 5 rfl rfl)
theorem dX7_buyers_101 : decode cX7_buyers 101 = .ok (.isub, 1) := dk_100 (dk_at dksX7_buyers_4 6 rfl rfl)
theorem dX7_buyers_102 : decode cX7_buyers 102 = .ok (.istore 5, 2) := dk_54 5 (dk_at dksX7_buyers_4 7 rfl rfl)
theorem dX7_buyers_104 : decode cX7_buyers 104 = .ok (.iload 5, 2) := dk_21 5 (dk_at dksX7_buyers_4 9 rfl rfl)
theorem dX7_buyers_106 : decode cX7_buyers 106 = .ok (.ifCond .lt 66, 3) := dk_155 0 66 (dk_at dksX7_buyers_4 11 rfl rfl)
theorem dX7_buyers_109 : decode cX7_buyers 109 = .ok (.aload_n 0, 1) := dk_42 (dk_at dksX7_buyers_4 14 rfl rfl)
theorem dX7_buyers_110 : decode cX7_buyers 110 = .ok (.iload 4, 2) := dk_21 4 (dk_at dksX7_buyers_4 15 rfl rfl)
theorem dX7_buyers_112 : decode cX7_buyers 112 = .ok (.iload 5, 2) := dk_21 5 (dk_at dksX7_buyers_4 17 rfl rfl)
theorem dX7_buyers_114 : decode cX7_buyers 114 = .ok (.iload_n 2, 1) := dk_28 (dk_at dksX7_buyers_4 19 rfl rfl)
theorem dX7_buyers_115 : decode cX7_buyers 115 = .ok (.invokevirtual 381, 3) := dk_182 1 125 (dk_at dksX7_buyers_4 20 rfl rfl)
theorem dX7_buyers_118 : decode cX7_buyers 118 = .ok (.ifCond .eq 48, 3) := dk_153 0 48 (dk_at dksX7_buyers_5 0 rfl rfl)
theorem dX7_buyers_121 : decode cX7_buyers 121 = .ok (.aload_n 0, 1) := dk_42 (dk_at dksX7_buyers_5 3 rfl rfl)
theorem dX7_buyers_122 : decode cX7_buyers 122 = .ok (.getfield 42, 3) := dk_180 0 42 (dk_at dksX7_buyers_5 4 rfl rfl)
theorem dX7_buyers_125 : decode cX7_buyers 125 = .ok (.iload 4, 2) := dk_21 4 (dk_at dksX7_buyers_5 7 rfl rfl)
theorem dX7_buyers_127 : decode cX7_buyers 127 = .ok (.iaload, 1) := dk_46 (dk_at dksX7_buyers_5 9 rfl rfl)
theorem dX7_buyers_128 : decode cX7_buyers 128 = .ok (.aload_n 0, 1) := dk_42 (dk_at dksX7_buyers_5 10 rfl rfl)
theorem dX7_buyers_129 : decode cX7_buyers 129 = .ok (.getfield 39, 3) := dk_180 0 39 (dk_at dksX7_buyers_5 11 rfl rfl)
theorem dX7_buyers_132 : decode cX7_buyers 132 = .ok (.bipush 64, 2) := dk_16 64 (dk_at dksX7_buyers_5 14 rfl rfl)
theorem dX7_buyers_134 : decode cX7_buyers 134 = .ok (.iload 4, 2) := dk_21 4 (dk_at dksX7_buyers_5 16 rfl rfl)
theorem dX7_buyers_136 : decode cX7_buyers 136 = .ok (.iconst 1, 1) := dk_4 (dk_at dksX7_buyers_5 18 rfl rfl)
theorem dX7_buyers_137 : decode cX7_buyers 137 = .ok (.iadd, 1) := dk_96 (dk_at dksX7_buyers_5 19 rfl rfl)
theorem dX7_buyers_138 : decode cX7_buyers 138 = .ok (.imul, 1) := dk_104 (dk_at dksX7_buyers_5 20 rfl rfl)
theorem dX7_buyers_139 : decode cX7_buyers 139 = .ok (.iload_n 2, 1) := dk_28 (dk_at dksX7_buyers_5 21 rfl rfl)
theorem dX7_buyers_140 : decode cX7_buyers 140 = .ok (.iconst 1, 1) := dk_4 (dk_at dksX7_buyers_5 22 rfl rfl)
theorem dX7_buyers_141 : decode cX7_buyers 141 = .ok (.iload 5, 2) := dk_21 5 (dk_at dksX7_buyers_6 0 rfl rfl)
theorem dX7_buyers_143 : decode cX7_buyers 143 = .ok (.ishl, 1) := dk_120 (dk_at dksX7_buyers_6 2 rfl rfl)
theorem dX7_buyers_144 : decode cX7_buyers 144 = .ok (.ior, 1) := dk_128 (dk_at dksX7_buyers_6 3 rfl rfl)
theorem dX7_buyers_145 : decode cX7_buyers 145 = .ok (.iadd, 1) := dk_96 (dk_at dksX7_buyers_6 4 rfl rfl)
theorem dX7_buyers_146 : decode cX7_buyers 146 = .ok (.iaload, 1) := dk_46 (dk_at dksX7_buyers_6 5 rfl rfl)
theorem dX7_buyers_147 : decode cX7_buyers 147 = .ok (.iadd, 1) := dk_96 (dk_at dksX7_buyers_6 6 rfl rfl)
theorem dX7_buyers_148 : decode cX7_buyers 148 = .ok (.aload_n 0, 1) := dk_42 (dk_at dksX7_buyers_6 7 rfl rfl)
theorem dX7_buyers_149 : decode cX7_buyers 149 = .ok (.getfield 39, 3) := dk_180 0 39 (dk_at dksX7_buyers_6 8 rfl rfl)
theorem dX7_buyers_152 : decode cX7_buyers 152 = .ok (.bipush 64, 2) := dk_16 64 (dk_at dksX7_buyers_6 11 rfl rfl)
theorem dX7_buyers_154 : decode cX7_buyers 154 = .ok (.iload 4, 2) := dk_21 4 (dk_at dksX7_buyers_6 13 rfl rfl)
theorem dX7_buyers_156 : decode cX7_buyers 156 = .ok (.imul, 1) := dk_104 (dk_at dksX7_buyers_6 15 rfl rfl)
theorem dX7_buyers_157 : decode cX7_buyers 157 = .ok (.iload_n 2, 1) := dk_28 (dk_at dksX7_buyers_6 16 rfl rfl)
theorem dX7_buyers_158 : decode cX7_buyers 158 = .ok (.iadd, 1) := dk_96 (dk_at dksX7_buyers_6 17 rfl rfl)
theorem dX7_buyers_159 : decode cX7_buyers 159 = .ok (.iaload, 1) := dk_46 (dk_at dksX7_buyers_6 18 rfl rfl)
theorem dX7_buyers_160 : decode cX7_buyers 160 = .ok (.if_icmp .ne 6, 3) := dk_160 0 6 (dk_at dksX7_buyers_6 19 rfl rfl)
theorem dX7_buyers_163 : decode cX7_buyers 163 = .ok (.iload 5, 2) := dk_21 5 (dk_at dksX7_buyers_6 22 rfl rfl)
theorem dX7_buyers_165 : decode cX7_buyers 165 = .ok (.istore_n 3, 1) := dk_62 (dk_at dksX7_buyers_7 0 rfl rfl)
theorem dX7_buyers_166 : decode cX7_buyers 166 = .ok (.iinc 5 (-1), 3) := dk_132 5 255 (dk_at dksX7_buyers_7 1 rfl rfl)
theorem dX7_buyers_169 : decode cX7_buyers 169 = .ok (.goto (-65), 3) := dk_167 255 191 (dk_at dksX7_buyers_7 4 rfl rfl)
theorem dX7_buyers_172 : decode cX7_buyers 172 = .ok (.iload_n 2, 1) := dk_28 (dk_at dksX7_buyers_7 7 rfl rfl)
theorem dX7_buyers_173 : decode cX7_buyers 173 = .ok (.iconst 1, 1) := dk_4 (dk_at dksX7_buyers_7 8 rfl rfl)
theorem dX7_buyers_174 : decode cX7_buyers 174 = .ok (.iload_n 3, 1) := dk_29 (dk_at dksX7_buyers_7 9 rfl rfl)
theorem dX7_buyers_175 : decode cX7_buyers 175 = .ok (.ishl, 1) := dk_120 (dk_at dksX7_buyers_7 10 rfl rfl)
theorem dX7_buyers_176 : decode cX7_buyers 176 = .ok (.ior, 1) := dk_128 (dk_at dksX7_buyers_7 11 rfl rfl)
theorem dX7_buyers_177 : decode cX7_buyers 177 = .ok (.istore_n 2, 1) := dk_61 (dk_at dksX7_buyers_7 12 rfl rfl)
theorem dX7_buyers_178 : decode cX7_buyers 178 = .ok (.iinc 4 1, 3) := dk_132 4 1 (dk_at dksX7_buyers_7 13 rfl rfl)
theorem dX7_buyers_181 : decode cX7_buyers 181 = .ok (.goto (-127), 3) := dk_167 255 129 (dk_at dksX7_buyers_7 16 rfl rfl)
theorem dX7_buyers_184 : decode cX7_buyers 184 = .ok (.iload_n 3, 1) := dk_29 (dk_at dksX7_buyers_7 19 rfl rfl)
theorem dX7_buyers_185 : decode cX7_buyers 185 = .ok (.ireturn, 1) := dk_172 (dk_at dksX7_buyers_7 20 rfl rfl)
abbrev cX7_sales : ByteArray := prog_20_method_111_code
def yX7_sales : MethodName := ⟨RX7, "sales", "()V"⟩
def dkwX7_sales_7 : List UInt8 := [96, 29, 79, 132, 2, 1, 167, 255, 160, 132, 1, 255, 167, 255, 148, 177]
abbrev dktX7_sales_7 : List UInt8 := dkwX7_sales_7 ++ []
def dkwX7_sales_6 : List UInt8 := [120, 128, 96, 46, 96, 184, 1, 13, 62, 132, 4, 1, 167, 255, 201, 42, 180, 0, 39, 16, 64, 27, 104, 28]
abbrev dktX7_sales_6 : List UInt8 := dkwX7_sales_6 ++ dktX7_sales_7
def dkwX7_sales_5 : List UInt8 := [153, 0, 33, 29, 42, 180, 0, 42, 27, 46, 42, 180, 0, 39, 16, 64, 27, 4, 96, 104, 28, 4, 21, 4]
abbrev dktX7_sales_5 : List UInt8 := dkwX7_sales_5 ++ dktX7_sales_6
def dkwX7_sales_4 : List UInt8 := [62, 3, 54, 4, 21, 4, 42, 180, 0, 7, 6, 46, 162, 0, 50, 42, 27, 21, 4, 28, 182, 1, 125]
abbrev dktX7_sales_4 : List UInt8 := dkwX7_sales_4 ++ dktX7_sales_5
def dkwX7_sales_3 : List UInt8 := [155, 0, 110, 3, 61, 28, 16, 64, 162, 0, 96, 42, 180, 0, 39, 16, 64, 27, 4, 96, 104, 28, 96, 46]
abbrev dktX7_sales_3 : List UInt8 := dkwX7_sales_3 ++ dktX7_sales_4
def dkwX7_sales_2 : List UInt8 := [8, 46, 104, 27, 96, 3, 79, 132, 1, 1, 167, 255, 230, 42, 180, 0, 7, 8, 46, 4, 100, 60, 27]
abbrev dktX7_sales_2 : List UInt8 := dkwX7_sales_2 ++ dktX7_sales_3
def dkwX7_sales_1 : List UInt8 := [132, 1, 1, 167, 255, 232, 3, 60, 27, 16, 64, 162, 0, 26, 42, 180, 0, 39, 16, 64, 42, 180, 0, 7]
abbrev dktX7_sales_1 : List UInt8 := dkwX7_sales_1 ++ dktX7_sales_2
def dkwX7_sales_0 : List UInt8 := [3, 60, 27, 42, 180, 0, 7, 8, 46, 162, 0, 20, 42, 180, 0, 42, 27, 42, 27, 182, 1, 72, 79]
abbrev dktX7_sales_0 : List UInt8 := dkwX7_sales_0 ++ dktX7_sales_1
theorem dksX7_sales_0 : cX7_sales.data.toList.drop 0 = dktX7_sales_0 := by decide +kernel
theorem dksX7_sales_1 : cX7_sales.data.toList.drop 23 = dktX7_sales_1 := dk_seg dksX7_sales_0 23 rfl rfl
theorem dksX7_sales_2 : cX7_sales.data.toList.drop 47 = dktX7_sales_2 := dk_seg dksX7_sales_1 24 rfl rfl
theorem dksX7_sales_3 : cX7_sales.data.toList.drop 70 = dktX7_sales_3 := dk_seg dksX7_sales_2 23 rfl rfl
theorem dksX7_sales_4 : cX7_sales.data.toList.drop 94 = dktX7_sales_4 := dk_seg dksX7_sales_3 24 rfl rfl
theorem dksX7_sales_5 : cX7_sales.data.toList.drop 117 = dktX7_sales_5 := dk_seg dksX7_sales_4 23 rfl rfl
theorem dksX7_sales_6 : cX7_sales.data.toList.drop 141 = dktX7_sales_6 := dk_seg dksX7_sales_5 24 rfl rfl
theorem dksX7_sales_7 : cX7_sales.data.toList.drop 165 = dktX7_sales_7 := dk_seg dksX7_sales_6 24 rfl rfl
theorem dX7_sales_0 : decode cX7_sales 0 = .ok (.iconst 0, 1) := dk_3 (dk_at dksX7_sales_0 0 rfl rfl)
theorem dX7_sales_1 : decode cX7_sales 1 = .ok (.istore_n 1, 1) := dk_60 (dk_at dksX7_sales_0 1 rfl rfl)
theorem dX7_sales_2 : decode cX7_sales 2 = .ok (.iload_n 1, 1) := dk_27 (dk_at dksX7_sales_0 2 rfl rfl)
theorem dX7_sales_3 : decode cX7_sales 3 = .ok (.aload_n 0, 1) := dk_42 (dk_at dksX7_sales_0 3 rfl rfl)
theorem dX7_sales_4 : decode cX7_sales 4 = .ok (.getfield 7, 3) := dk_180 0 7 (dk_at dksX7_sales_0 4 rfl rfl)
theorem dX7_sales_7 : decode cX7_sales 7 = .ok (.iconst 5, 1) := dk_8 (dk_at dksX7_sales_0 7 rfl rfl)
theorem dX7_sales_8 : decode cX7_sales 8 = .ok (.iaload, 1) := dk_46 (dk_at dksX7_sales_0 8 rfl rfl)
theorem dX7_sales_9 : decode cX7_sales 9 = .ok (.if_icmp .ge 20, 3) := dk_162 0 20 (dk_at dksX7_sales_0 9 rfl rfl)
theorem dX7_sales_12 : decode cX7_sales 12 = .ok (.aload_n 0, 1) := dk_42 (dk_at dksX7_sales_0 12 rfl rfl)
theorem dX7_sales_13 : decode cX7_sales 13 = .ok (.getfield 42, 3) := dk_180 0 42 (dk_at dksX7_sales_0 13 rfl rfl)
theorem dX7_sales_16 : decode cX7_sales 16 = .ok (.iload_n 1, 1) := dk_27 (dk_at dksX7_sales_0 16 rfl rfl)
theorem dX7_sales_17 : decode cX7_sales 17 = .ok (.aload_n 0, 1) := dk_42 (dk_at dksX7_sales_0 17 rfl rfl)
theorem dX7_sales_18 : decode cX7_sales 18 = .ok (.iload_n 1, 1) := dk_27 (dk_at dksX7_sales_0 18 rfl rfl)
theorem dX7_sales_19 : decode cX7_sales 19 = .ok (.invokevirtual 328, 3) := dk_182 1 72 (dk_at dksX7_sales_0 19 rfl rfl)
theorem dX7_sales_22 : decode cX7_sales 22 = .ok (.iastore, 1) := dk_79 (dk_at dksX7_sales_0 22 rfl rfl)
theorem dX7_sales_23 : decode cX7_sales 23 = .ok (.iinc 1 1, 3) := dk_132 1 1 (dk_at dksX7_sales_1 0 rfl rfl)
theorem dX7_sales_26 : decode cX7_sales 26 = .ok (.goto (-24), 3) := dk_167 255 232 (dk_at dksX7_sales_1 3 rfl rfl)
theorem dX7_sales_29 : decode cX7_sales 29 = .ok (.iconst 0, 1) := dk_3 (dk_at dksX7_sales_1 6 rfl rfl)
theorem dX7_sales_30 : decode cX7_sales 30 = .ok (.istore_n 1, 1) := dk_60 (dk_at dksX7_sales_1 7 rfl rfl)
theorem dX7_sales_31 : decode cX7_sales 31 = .ok (.iload_n 1, 1) := dk_27 (dk_at dksX7_sales_1 8 rfl rfl)
theorem dX7_sales_32 : decode cX7_sales 32 = .ok (.bipush 64, 2) := dk_16 64 (dk_at dksX7_sales_1 9 rfl rfl)
theorem dX7_sales_34 : decode cX7_sales 34 = .ok (.if_icmp .ge 26, 3) := dk_162 0 26 (dk_at dksX7_sales_1 11 rfl rfl)
theorem dX7_sales_37 : decode cX7_sales 37 = .ok (.aload_n 0, 1) := dk_42 (dk_at dksX7_sales_1 14 rfl rfl)
theorem dX7_sales_38 : decode cX7_sales 38 = .ok (.getfield 39, 3) := dk_180 0 39 (dk_at dksX7_sales_1 15 rfl rfl)
theorem dX7_sales_41 : decode cX7_sales 41 = .ok (.bipush 64, 2) := dk_16 64 (dk_at dksX7_sales_1 18 rfl rfl)
theorem dX7_sales_43 : decode cX7_sales 43 = .ok (.aload_n 0, 1) := dk_42 (dk_at dksX7_sales_1 20 rfl rfl)
theorem dX7_sales_44 : decode cX7_sales 44 = .ok (.getfield 7, 3) := dk_180 0 7 (dk_at dksX7_sales_1 21 rfl rfl)
theorem dX7_sales_47 : decode cX7_sales 47 = .ok (.iconst 5, 1) := dk_8 (dk_at dksX7_sales_2 0 rfl rfl)
theorem dX7_sales_48 : decode cX7_sales 48 = .ok (.iaload, 1) := dk_46 (dk_at dksX7_sales_2 1 rfl rfl)
theorem dX7_sales_49 : decode cX7_sales 49 = .ok (.imul, 1) := dk_104 (dk_at dksX7_sales_2 2 rfl rfl)
theorem dX7_sales_50 : decode cX7_sales 50 = .ok (.iload_n 1, 1) := dk_27 (dk_at dksX7_sales_2 3 rfl rfl)
theorem dX7_sales_51 : decode cX7_sales 51 = .ok (.iadd, 1) := dk_96 (dk_at dksX7_sales_2 4 rfl rfl)
theorem dX7_sales_52 : decode cX7_sales 52 = .ok (.iconst 0, 1) := dk_3 (dk_at dksX7_sales_2 5 rfl rfl)
theorem dX7_sales_53 : decode cX7_sales 53 = .ok (.iastore, 1) := dk_79 (dk_at dksX7_sales_2 6 rfl rfl)
theorem dX7_sales_54 : decode cX7_sales 54 = .ok (.iinc 1 1, 3) := dk_132 1 1 (dk_at dksX7_sales_2 7 rfl rfl)
theorem dX7_sales_57 : decode cX7_sales 57 = .ok (.goto (-26), 3) := dk_167 255 230 (dk_at dksX7_sales_2 10 rfl rfl)
theorem dX7_sales_60 : decode cX7_sales 60 = .ok (.aload_n 0, 1) := dk_42 (dk_at dksX7_sales_2 13 rfl rfl)
theorem dX7_sales_61 : decode cX7_sales 61 = .ok (.getfield 7, 3) := dk_180 0 7 (dk_at dksX7_sales_2 14 rfl rfl)
theorem dX7_sales_64 : decode cX7_sales 64 = .ok (.iconst 5, 1) := dk_8 (dk_at dksX7_sales_2 17 rfl rfl)
theorem dX7_sales_65 : decode cX7_sales 65 = .ok (.iaload, 1) := dk_46 (dk_at dksX7_sales_2 18 rfl rfl)
theorem dX7_sales_66 : decode cX7_sales 66 = .ok (.iconst 1, 1) := dk_4 (dk_at dksX7_sales_2 19 rfl rfl)
theorem dX7_sales_67 : decode cX7_sales 67 = .ok (.isub, 1) := dk_100 (dk_at dksX7_sales_2 20 rfl rfl)
theorem dX7_sales_68 : decode cX7_sales 68 = .ok (.istore_n 1, 1) := dk_60 (dk_at dksX7_sales_2 21 rfl rfl)
theorem dX7_sales_69 : decode cX7_sales 69 = .ok (.iload_n 1, 1) := dk_27 (dk_at dksX7_sales_2 22 rfl rfl)
theorem dX7_sales_70 : decode cX7_sales 70 = .ok (.ifCond .lt 110, 3) := dk_155 0 110 (dk_at dksX7_sales_3 0 rfl rfl)
theorem dX7_sales_73 : decode cX7_sales 73 = .ok (.iconst 0, 1) := dk_3 (dk_at dksX7_sales_3 3 rfl rfl)
theorem dX7_sales_74 : decode cX7_sales 74 = .ok (.istore_n 2, 1) := dk_61 (dk_at dksX7_sales_3 4 rfl rfl)
theorem dX7_sales_75 : decode cX7_sales 75 = .ok (.iload_n 2, 1) := dk_28 (dk_at dksX7_sales_3 5 rfl rfl)
theorem dX7_sales_76 : decode cX7_sales 76 = .ok (.bipush 64, 2) := dk_16 64 (dk_at dksX7_sales_3 6 rfl rfl)
theorem dX7_sales_78 : decode cX7_sales 78 = .ok (.if_icmp .ge 96, 3) := dk_162 0 96 (dk_at dksX7_sales_3 8 rfl rfl)
theorem dX7_sales_81 : decode cX7_sales 81 = .ok (.aload_n 0, 1) := dk_42 (dk_at dksX7_sales_3 11 rfl rfl)
theorem dX7_sales_82 : decode cX7_sales 82 = .ok (.getfield 39, 3) := dk_180 0 39 (dk_at dksX7_sales_3 12 rfl rfl)
theorem dX7_sales_85 : decode cX7_sales 85 = .ok (.bipush 64, 2) := dk_16 64 (dk_at dksX7_sales_3 15 rfl rfl)
theorem dX7_sales_87 : decode cX7_sales 87 = .ok (.iload_n 1, 1) := dk_27 (dk_at dksX7_sales_3 17 rfl rfl)
theorem dX7_sales_88 : decode cX7_sales 88 = .ok (.iconst 1, 1) := dk_4 (dk_at dksX7_sales_3 18 rfl rfl)
theorem dX7_sales_89 : decode cX7_sales 89 = .ok (.iadd, 1) := dk_96 (dk_at dksX7_sales_3 19 rfl rfl)
theorem dX7_sales_90 : decode cX7_sales 90 = .ok (.imul, 1) := dk_104 (dk_at dksX7_sales_3 20 rfl rfl)
theorem dX7_sales_91 : decode cX7_sales 91 = .ok (.iload_n 2, 1) := dk_28 (dk_at dksX7_sales_3 21 rfl rfl)
theorem dX7_sales_92 : decode cX7_sales 92 = .ok (.iadd, 1) := dk_96 (dk_at dksX7_sales_3 22 rfl rfl)
theorem dX7_sales_93 : decode cX7_sales 93 = .ok (.iaload, 1) := dk_46 (dk_at dksX7_sales_3 23 rfl rfl)
theorem dX7_sales_94 : decode cX7_sales 94 = .ok (.istore_n 3, 1) := dk_62 (dk_at dksX7_sales_4 0 rfl rfl)
theorem dX7_sales_95 : decode cX7_sales 95 = .ok (.iconst 0, 1) := dk_3 (dk_at dksX7_sales_4 1 rfl rfl)
theorem dX7_sales_96 : decode cX7_sales 96 = .ok (.istore 4, 2) := dk_54 4 (dk_at dksX7_sales_4 2 rfl rfl)
theorem dX7_sales_98 : decode cX7_sales 98 = .ok (.iload 4, 2) := dk_21 4 (dk_at dksX7_sales_4 4 rfl rfl)
theorem dX7_sales_100 : decode cX7_sales 100 = .ok (.aload_n 0, 1) := dk_42 (dk_at dksX7_sales_4 6 rfl rfl)
theorem dX7_sales_101 : decode cX7_sales 101 = .ok (.getfield 7, 3) := dk_180 0 7 (dk_at dksX7_sales_4 7 rfl rfl)
theorem dX7_sales_104 : decode cX7_sales 104 = .ok (.iconst 3, 1) := dk_6 (dk_at dksX7_sales_4 10 rfl rfl)
theorem dX7_sales_105 : decode cX7_sales 105 = .ok (.iaload, 1) := dk_46 (dk_at dksX7_sales_4 11 rfl rfl)
theorem dX7_sales_106 : decode cX7_sales 106 = .ok (.if_icmp .ge 50, 3) := dk_162 0 50 (dk_at dksX7_sales_4 12 rfl rfl)
theorem dX7_sales_109 : decode cX7_sales 109 = .ok (.aload_n 0, 1) := dk_42 (dk_at dksX7_sales_4 15 rfl rfl)
theorem dX7_sales_110 : decode cX7_sales 110 = .ok (.iload_n 1, 1) := dk_27 (dk_at dksX7_sales_4 16 rfl rfl)
theorem dX7_sales_111 : decode cX7_sales 111 = .ok (.iload 4, 2) := dk_21 4 (dk_at dksX7_sales_4 17 rfl rfl)
theorem dX7_sales_113 : decode cX7_sales 113 = .ok (.iload_n 2, 1) := dk_28 (dk_at dksX7_sales_4 19 rfl rfl)
theorem dX7_sales_114 : decode cX7_sales 114 = .ok (.invokevirtual 381, 3) := dk_182 1 125 (dk_at dksX7_sales_4 20 rfl rfl)
theorem dX7_sales_117 : decode cX7_sales 117 = .ok (.ifCond .eq 33, 3) := dk_153 0 33 (dk_at dksX7_sales_5 0 rfl rfl)
theorem dX7_sales_120 : decode cX7_sales 120 = .ok (.iload_n 3, 1) := dk_29 (dk_at dksX7_sales_5 3 rfl rfl)
theorem dX7_sales_121 : decode cX7_sales 121 = .ok (.aload_n 0, 1) := dk_42 (dk_at dksX7_sales_5 4 rfl rfl)
theorem dX7_sales_122 : decode cX7_sales 122 = .ok (.getfield 42, 3) := dk_180 0 42 (dk_at dksX7_sales_5 5 rfl rfl)
theorem dX7_sales_125 : decode cX7_sales 125 = .ok (.iload_n 1, 1) := dk_27 (dk_at dksX7_sales_5 8 rfl rfl)
theorem dX7_sales_126 : decode cX7_sales 126 = .ok (.iaload, 1) := dk_46 (dk_at dksX7_sales_5 9 rfl rfl)
theorem dX7_sales_127 : decode cX7_sales 127 = .ok (.aload_n 0, 1) := dk_42 (dk_at dksX7_sales_5 10 rfl rfl)
theorem dX7_sales_128 : decode cX7_sales 128 = .ok (.getfield 39, 3) := dk_180 0 39 (dk_at dksX7_sales_5 11 rfl rfl)
theorem dX7_sales_131 : decode cX7_sales 131 = .ok (.bipush 64, 2) := dk_16 64 (dk_at dksX7_sales_5 14 rfl rfl)
theorem dX7_sales_133 : decode cX7_sales 133 = .ok (.iload_n 1, 1) := dk_27 (dk_at dksX7_sales_5 16 rfl rfl)
theorem dX7_sales_134 : decode cX7_sales 134 = .ok (.iconst 1, 1) := dk_4 (dk_at dksX7_sales_5 17 rfl rfl)
theorem dX7_sales_135 : decode cX7_sales 135 = .ok (.iadd, 1) := dk_96 (dk_at dksX7_sales_5 18 rfl rfl)
theorem dX7_sales_136 : decode cX7_sales 136 = .ok (.imul, 1) := dk_104 (dk_at dksX7_sales_5 19 rfl rfl)
theorem dX7_sales_137 : decode cX7_sales 137 = .ok (.iload_n 2, 1) := dk_28 (dk_at dksX7_sales_5 20 rfl rfl)
theorem dX7_sales_138 : decode cX7_sales 138 = .ok (.iconst 1, 1) := dk_4 (dk_at dksX7_sales_5 21 rfl rfl)
theorem dX7_sales_139 : decode cX7_sales 139 = .ok (.iload 4, 2) := dk_21 4 (dk_at dksX7_sales_5 22 rfl rfl)
theorem dX7_sales_141 : decode cX7_sales 141 = .ok (.ishl, 1) := dk_120 (dk_at dksX7_sales_6 0 rfl rfl)
theorem dX7_sales_142 : decode cX7_sales 142 = .ok (.ior, 1) := dk_128 (dk_at dksX7_sales_6 1 rfl rfl)
theorem dX7_sales_143 : decode cX7_sales 143 = .ok (.iadd, 1) := dk_96 (dk_at dksX7_sales_6 2 rfl rfl)
theorem dX7_sales_144 : decode cX7_sales 144 = .ok (.iaload, 1) := dk_46 (dk_at dksX7_sales_6 3 rfl rfl)
theorem dX7_sales_145 : decode cX7_sales 145 = .ok (.iadd, 1) := dk_96 (dk_at dksX7_sales_6 4 rfl rfl)
theorem dX7_sales_146 : decode cX7_sales 146 = .ok (.invokestatic 269, 3) := dk_184 1 13 (dk_at dksX7_sales_6 5 rfl rfl)
theorem dX7_sales_149 : decode cX7_sales 149 = .ok (.istore_n 3, 1) := dk_62 (dk_at dksX7_sales_6 8 rfl rfl)
theorem dX7_sales_150 : decode cX7_sales 150 = .ok (.iinc 4 1, 3) := dk_132 4 1 (dk_at dksX7_sales_6 9 rfl rfl)
theorem dX7_sales_153 : decode cX7_sales 153 = .ok (.goto (-55), 3) := dk_167 255 201 (dk_at dksX7_sales_6 12 rfl rfl)
theorem dX7_sales_156 : decode cX7_sales 156 = .ok (.aload_n 0, 1) := dk_42 (dk_at dksX7_sales_6 15 rfl rfl)
theorem dX7_sales_157 : decode cX7_sales 157 = .ok (.getfield 39, 3) := dk_180 0 39 (dk_at dksX7_sales_6 16 rfl rfl)
theorem dX7_sales_160 : decode cX7_sales 160 = .ok (.bipush 64, 2) := dk_16 64 (dk_at dksX7_sales_6 19 rfl rfl)
theorem dX7_sales_162 : decode cX7_sales 162 = .ok (.iload_n 1, 1) := dk_27 (dk_at dksX7_sales_6 21 rfl rfl)
theorem dX7_sales_163 : decode cX7_sales 163 = .ok (.imul, 1) := dk_104 (dk_at dksX7_sales_6 22 rfl rfl)
theorem dX7_sales_164 : decode cX7_sales 164 = .ok (.iload_n 2, 1) := dk_28 (dk_at dksX7_sales_6 23 rfl rfl)
theorem dX7_sales_165 : decode cX7_sales 165 = .ok (.iadd, 1) := dk_96 (dk_at dksX7_sales_7 0 rfl rfl)
theorem dX7_sales_166 : decode cX7_sales 166 = .ok (.iload_n 3, 1) := dk_29 (dk_at dksX7_sales_7 1 rfl rfl)
theorem dX7_sales_167 : decode cX7_sales 167 = .ok (.iastore, 1) := dk_79 (dk_at dksX7_sales_7 2 rfl rfl)
theorem dX7_sales_168 : decode cX7_sales 168 = .ok (.iinc 2 1, 3) := dk_132 2 1 (dk_at dksX7_sales_7 3 rfl rfl)
theorem dX7_sales_171 : decode cX7_sales 171 = .ok (.goto (-96), 3) := dk_167 255 160 (dk_at dksX7_sales_7 6 rfl rfl)
theorem dX7_sales_174 : decode cX7_sales 174 = .ok (.iinc 1 (-1), 3) := dk_132 1 255 (dk_at dksX7_sales_7 9 rfl rfl)
theorem dX7_sales_177 : decode cX7_sales 177 = .ok (.goto (-108), 3) := dk_167 255 148 (dk_at dksX7_sales_7 12 rfl rfl)
theorem dX7_sales_180 : decode cX7_sales 180 = .ok (.return_, 1) := dk_177 (dk_at dksX7_sales_7 15 rfl rfl)
abbrev cX7_mayBuy : ByteArray := prog_20_method_110_code
def yX7_mayBuy : MethodName := ⟨RX7, "mayBuy", "(III)Z"⟩
def dkwX7_mayBuy_2 : List UInt8 := [46, 161, 0, 7, 4, 167, 0, 4, 3, 172]
abbrev dktX7_mayBuy_2 : List UInt8 := dkwX7_mayBuy_2 ++ []
def dkwX7_mayBuy_1 : List UInt8 := [28, 159, 0, 31, 42, 27, 5, 182, 0, 52, 28, 159, 0, 21, 42, 28, 182, 1, 26, 42, 180, 0, 42, 27]
abbrev dktX7_mayBuy_1 : List UInt8 := dkwX7_mayBuy_1 ++ dktX7_mayBuy_2
def dkwX7_mayBuy_0 : List UInt8 := [42, 27, 16, 10, 182, 0, 52, 154, 0, 49, 29, 28, 184, 0, 56, 154, 0, 41, 42, 27, 4, 182, 0, 52]
abbrev dktX7_mayBuy_0 : List UInt8 := dkwX7_mayBuy_0 ++ dktX7_mayBuy_1
theorem dksX7_mayBuy_0 : cX7_mayBuy.data.toList.drop 0 = dktX7_mayBuy_0 := by decide +kernel
theorem dksX7_mayBuy_1 : cX7_mayBuy.data.toList.drop 24 = dktX7_mayBuy_1 := dk_seg dksX7_mayBuy_0 24 rfl rfl
theorem dksX7_mayBuy_2 : cX7_mayBuy.data.toList.drop 48 = dktX7_mayBuy_2 := dk_seg dksX7_mayBuy_1 24 rfl rfl
theorem dX7_mayBuy_0 : decode cX7_mayBuy 0 = .ok (.aload_n 0, 1) := dk_42 (dk_at dksX7_mayBuy_0 0 rfl rfl)
theorem dX7_mayBuy_1 : decode cX7_mayBuy 1 = .ok (.iload_n 1, 1) := dk_27 (dk_at dksX7_mayBuy_0 1 rfl rfl)
theorem dX7_mayBuy_2 : decode cX7_mayBuy 2 = .ok (.bipush 10, 2) := dk_16 10 (dk_at dksX7_mayBuy_0 2 rfl rfl)
theorem dX7_mayBuy_4 : decode cX7_mayBuy 4 = .ok (.invokevirtual 52, 3) := dk_182 0 52 (dk_at dksX7_mayBuy_0 4 rfl rfl)
theorem dX7_mayBuy_7 : decode cX7_mayBuy 7 = .ok (.ifCond .ne 49, 3) := dk_154 0 49 (dk_at dksX7_mayBuy_0 7 rfl rfl)
theorem dX7_mayBuy_10 : decode cX7_mayBuy 10 = .ok (.iload_n 3, 1) := dk_29 (dk_at dksX7_mayBuy_0 10 rfl rfl)
theorem dX7_mayBuy_11 : decode cX7_mayBuy 11 = .ok (.iload_n 2, 1) := dk_28 (dk_at dksX7_mayBuy_0 11 rfl rfl)
theorem dX7_mayBuy_12 : decode cX7_mayBuy 12 = .ok (.invokestatic 56, 3) := dk_184 0 56 (dk_at dksX7_mayBuy_0 12 rfl rfl)
theorem dX7_mayBuy_15 : decode cX7_mayBuy 15 = .ok (.ifCond .ne 41, 3) := dk_154 0 41 (dk_at dksX7_mayBuy_0 15 rfl rfl)
theorem dX7_mayBuy_18 : decode cX7_mayBuy 18 = .ok (.aload_n 0, 1) := dk_42 (dk_at dksX7_mayBuy_0 18 rfl rfl)
theorem dX7_mayBuy_19 : decode cX7_mayBuy 19 = .ok (.iload_n 1, 1) := dk_27 (dk_at dksX7_mayBuy_0 19 rfl rfl)
theorem dX7_mayBuy_20 : decode cX7_mayBuy 20 = .ok (.iconst 1, 1) := dk_4 (dk_at dksX7_mayBuy_0 20 rfl rfl)
theorem dX7_mayBuy_21 : decode cX7_mayBuy 21 = .ok (.invokevirtual 52, 3) := dk_182 0 52 (dk_at dksX7_mayBuy_0 21 rfl rfl)
theorem dX7_mayBuy_24 : decode cX7_mayBuy 24 = .ok (.iload_n 2, 1) := dk_28 (dk_at dksX7_mayBuy_1 0 rfl rfl)
theorem dX7_mayBuy_25 : decode cX7_mayBuy 25 = .ok (.if_icmp .eq 31, 3) := dk_159 0 31 (dk_at dksX7_mayBuy_1 1 rfl rfl)
theorem dX7_mayBuy_28 : decode cX7_mayBuy 28 = .ok (.aload_n 0, 1) := dk_42 (dk_at dksX7_mayBuy_1 4 rfl rfl)
theorem dX7_mayBuy_29 : decode cX7_mayBuy 29 = .ok (.iload_n 1, 1) := dk_27 (dk_at dksX7_mayBuy_1 5 rfl rfl)
theorem dX7_mayBuy_30 : decode cX7_mayBuy 30 = .ok (.iconst 2, 1) := dk_5 (dk_at dksX7_mayBuy_1 6 rfl rfl)
theorem dX7_mayBuy_31 : decode cX7_mayBuy 31 = .ok (.invokevirtual 52, 3) := dk_182 0 52 (dk_at dksX7_mayBuy_1 7 rfl rfl)
theorem dX7_mayBuy_34 : decode cX7_mayBuy 34 = .ok (.iload_n 2, 1) := dk_28 (dk_at dksX7_mayBuy_1 10 rfl rfl)
theorem dX7_mayBuy_35 : decode cX7_mayBuy 35 = .ok (.if_icmp .eq 21, 3) := dk_159 0 21 (dk_at dksX7_mayBuy_1 11 rfl rfl)
theorem dX7_mayBuy_38 : decode cX7_mayBuy 38 = .ok (.aload_n 0, 1) := dk_42 (dk_at dksX7_mayBuy_1 14 rfl rfl)
theorem dX7_mayBuy_39 : decode cX7_mayBuy 39 = .ok (.iload_n 2, 1) := dk_28 (dk_at dksX7_mayBuy_1 15 rfl rfl)
theorem dX7_mayBuy_40 : decode cX7_mayBuy 40 = .ok (.invokevirtual 282, 3) := dk_182 1 26 (dk_at dksX7_mayBuy_1 16 rfl rfl)
theorem dX7_mayBuy_43 : decode cX7_mayBuy 43 = .ok (.aload_n 0, 1) := dk_42 (dk_at dksX7_mayBuy_1 19 rfl rfl)
theorem dX7_mayBuy_44 : decode cX7_mayBuy 44 = .ok (.getfield 42, 3) := dk_180 0 42 (dk_at dksX7_mayBuy_1 20 rfl rfl)
theorem dX7_mayBuy_47 : decode cX7_mayBuy 47 = .ok (.iload_n 1, 1) := dk_27 (dk_at dksX7_mayBuy_1 23 rfl rfl)
theorem dX7_mayBuy_48 : decode cX7_mayBuy 48 = .ok (.iaload, 1) := dk_46 (dk_at dksX7_mayBuy_2 0 rfl rfl)
theorem dX7_mayBuy_49 : decode cX7_mayBuy 49 = .ok (.if_icmp .lt 7, 3) := dk_161 0 7 (dk_at dksX7_mayBuy_2 1 rfl rfl)
theorem dX7_mayBuy_52 : decode cX7_mayBuy 52 = .ok (.iconst 1, 1) := dk_4 (dk_at dksX7_mayBuy_2 4 rfl rfl)
theorem dX7_mayBuy_53 : decode cX7_mayBuy 53 = .ok (.goto 4, 3) := dk_167 0 4 (dk_at dksX7_mayBuy_2 5 rfl rfl)
theorem dX7_mayBuy_56 : decode cX7_mayBuy 56 = .ok (.iconst 0, 1) := dk_3 (dk_at dksX7_mayBuy_2 8 rfl rfl)
theorem dX7_mayBuy_57 : decode cX7_mayBuy 57 = .ok (.ireturn, 1) := dk_172 (dk_at dksX7_mayBuy_2 9 rfl rfl)
abbrev cX7_rests : ByteArray := prog_20_method_114_code
def yX7_rests : MethodName := ⟨RX7, "rests", "(III)I"⟩
def dkwX7_rests_6 : List UInt8 := [21, 5, 120, 128, 54, 4, 132, 5, 1, 167, 255, 176, 21, 4, 172]
abbrev dktX7_rests_6 : List UInt8 := dkwX7_rests_6 ++ []
def dkwX7_rests_5 : List UInt8 := [21, 7, 100, 21, 6, 182, 1, 131, 42, 29, 28, 21, 7, 21, 6, 182, 1, 131, 163, 0, 12, 21, 4, 4]
abbrev dktX7_rests_5 : List UInt8 := dkwX7_rests_5 ++ dktX7_rests_6
def dkwX7_rests_4 : List UInt8 := [100, 21, 7, 182, 1, 131, 42, 29, 27, 21, 6, 21, 7, 182, 1, 131, 163, 0, 37, 42, 29, 28, 4]
abbrev dktX7_rests_4 : List UInt8 := dkwX7_rests_4 ++ dktX7_rests_5
def dkwX7_rests_3 : List UInt8 := [21, 5, 7, 162, 0, 80, 21, 5, 5, 108, 54, 6, 21, 5, 5, 112, 54, 7, 42, 29, 27, 4, 21, 6]
abbrev dktX7_rests_3 : List UInt8 := dkwX7_rests_3 ++ dktX7_rests_4
def dkwX7_rests_2 : List UInt8 := [158, 0, 5, 3, 172, 42, 29, 16, 10, 182, 0, 52, 153, 0, 5, 2, 172, 3, 54, 4, 3, 54, 5]
abbrev dktX7_rests_2 : List UInt8 := dkwX7_rests_2 ++ dktX7_rests_3
def dkwX7_rests_1 : List UInt8 := [154, 0, 7, 4, 167, 0, 13, 27, 28, 160, 0, 7, 5, 167, 0, 4, 3, 181, 0, 45, 42, 180, 0, 45]
abbrev dktX7_rests_1 : List UInt8 := dkwX7_rests_1 ++ dktX7_rests_2
def dkwX7_rests_0 : List UInt8 := [42, 42, 27, 182, 1, 50, 153, 0, 19, 42, 28, 182, 1, 50, 153, 0, 11, 42, 29, 182, 1, 69]
abbrev dktX7_rests_0 : List UInt8 := dkwX7_rests_0 ++ dktX7_rests_1
theorem dksX7_rests_0 : cX7_rests.data.toList.drop 0 = dktX7_rests_0 := by decide +kernel
theorem dksX7_rests_1 : cX7_rests.data.toList.drop 22 = dktX7_rests_1 := dk_seg dksX7_rests_0 22 rfl rfl
theorem dksX7_rests_2 : cX7_rests.data.toList.drop 46 = dktX7_rests_2 := dk_seg dksX7_rests_1 24 rfl rfl
theorem dksX7_rests_3 : cX7_rests.data.toList.drop 69 = dktX7_rests_3 := dk_seg dksX7_rests_2 23 rfl rfl
theorem dksX7_rests_4 : cX7_rests.data.toList.drop 93 = dktX7_rests_4 := dk_seg dksX7_rests_3 24 rfl rfl
theorem dksX7_rests_5 : cX7_rests.data.toList.drop 116 = dktX7_rests_5 := dk_seg dksX7_rests_4 23 rfl rfl
theorem dksX7_rests_6 : cX7_rests.data.toList.drop 140 = dktX7_rests_6 := dk_seg dksX7_rests_5 24 rfl rfl
theorem dX7_rests_0 : decode cX7_rests 0 = .ok (.aload_n 0, 1) := dk_42 (dk_at dksX7_rests_0 0 rfl rfl)
theorem dX7_rests_1 : decode cX7_rests 1 = .ok (.aload_n 0, 1) := dk_42 (dk_at dksX7_rests_0 1 rfl rfl)
theorem dX7_rests_2 : decode cX7_rests 2 = .ok (.iload_n 1, 1) := dk_27 (dk_at dksX7_rests_0 2 rfl rfl)
theorem dX7_rests_3 : decode cX7_rests 3 = .ok (.invokevirtual 306, 3) := dk_182 1 50 (dk_at dksX7_rests_0 3 rfl rfl)
theorem dX7_rests_6 : decode cX7_rests 6 = .ok (.ifCond .eq 19, 3) := dk_153 0 19 (dk_at dksX7_rests_0 6 rfl rfl)
theorem dX7_rests_9 : decode cX7_rests 9 = .ok (.aload_n 0, 1) := dk_42 (dk_at dksX7_rests_0 9 rfl rfl)
theorem dX7_rests_10 : decode cX7_rests 10 = .ok (.iload_n 2, 1) := dk_28 (dk_at dksX7_rests_0 10 rfl rfl)
theorem dX7_rests_11 : decode cX7_rests 11 = .ok (.invokevirtual 306, 3) := dk_182 1 50 (dk_at dksX7_rests_0 11 rfl rfl)
theorem dX7_rests_14 : decode cX7_rests 14 = .ok (.ifCond .eq 11, 3) := dk_153 0 11 (dk_at dksX7_rests_0 14 rfl rfl)
theorem dX7_rests_17 : decode cX7_rests 17 = .ok (.aload_n 0, 1) := dk_42 (dk_at dksX7_rests_0 17 rfl rfl)
theorem dX7_rests_18 : decode cX7_rests 18 = .ok (.iload_n 3, 1) := dk_29 (dk_at dksX7_rests_0 18 rfl rfl)
theorem dX7_rests_19 : decode cX7_rests 19 = .ok (.invokevirtual 325, 3) := dk_182 1 69 (dk_at dksX7_rests_0 19 rfl rfl)
theorem dX7_rests_22 : decode cX7_rests 22 = .ok (.ifCond .ne 7, 3) := dk_154 0 7 (dk_at dksX7_rests_1 0 rfl rfl)
theorem dX7_rests_25 : decode cX7_rests 25 = .ok (.iconst 1, 1) := dk_4 (dk_at dksX7_rests_1 3 rfl rfl)
theorem dX7_rests_26 : decode cX7_rests 26 = .ok (.goto 13, 3) := dk_167 0 13 (dk_at dksX7_rests_1 4 rfl rfl)
theorem dX7_rests_29 : decode cX7_rests 29 = .ok (.iload_n 1, 1) := dk_27 (dk_at dksX7_rests_1 7 rfl rfl)
theorem dX7_rests_30 : decode cX7_rests 30 = .ok (.iload_n 2, 1) := dk_28 (dk_at dksX7_rests_1 8 rfl rfl)
theorem dX7_rests_31 : decode cX7_rests 31 = .ok (.if_icmp .ne 7, 3) := dk_160 0 7 (dk_at dksX7_rests_1 9 rfl rfl)
theorem dX7_rests_34 : decode cX7_rests 34 = .ok (.iconst 2, 1) := dk_5 (dk_at dksX7_rests_1 12 rfl rfl)
theorem dX7_rests_35 : decode cX7_rests 35 = .ok (.goto 4, 3) := dk_167 0 4 (dk_at dksX7_rests_1 13 rfl rfl)
theorem dX7_rests_38 : decode cX7_rests 38 = .ok (.iconst 0, 1) := dk_3 (dk_at dksX7_rests_1 16 rfl rfl)
theorem dX7_rests_39 : decode cX7_rests 39 = .ok (.putfield 45, 3) := dk_181 0 45 (dk_at dksX7_rests_1 17 rfl rfl)
theorem dX7_rests_42 : decode cX7_rests 42 = .ok (.aload_n 0, 1) := dk_42 (dk_at dksX7_rests_1 20 rfl rfl)
theorem dX7_rests_43 : decode cX7_rests 43 = .ok (.getfield 45, 3) := dk_180 0 45 (dk_at dksX7_rests_1 21 rfl rfl)
theorem dX7_rests_46 : decode cX7_rests 46 = .ok (.ifCond .le 5, 3) := dk_158 0 5 (dk_at dksX7_rests_2 0 rfl rfl)
theorem dX7_rests_49 : decode cX7_rests 49 = .ok (.iconst 0, 1) := dk_3 (dk_at dksX7_rests_2 3 rfl rfl)
theorem dX7_rests_50 : decode cX7_rests 50 = .ok (.ireturn, 1) := dk_172 (dk_at dksX7_rests_2 4 rfl rfl)
theorem dX7_rests_51 : decode cX7_rests 51 = .ok (.aload_n 0, 1) := dk_42 (dk_at dksX7_rests_2 5 rfl rfl)
theorem dX7_rests_52 : decode cX7_rests 52 = .ok (.iload_n 3, 1) := dk_29 (dk_at dksX7_rests_2 6 rfl rfl)
theorem dX7_rests_53 : decode cX7_rests 53 = .ok (.bipush 10, 2) := dk_16 10 (dk_at dksX7_rests_2 7 rfl rfl)
theorem dX7_rests_55 : decode cX7_rests 55 = .ok (.invokevirtual 52, 3) := dk_182 0 52 (dk_at dksX7_rests_2 9 rfl rfl)
theorem dX7_rests_58 : decode cX7_rests 58 = .ok (.ifCond .eq 5, 3) := dk_153 0 5 (dk_at dksX7_rests_2 12 rfl rfl)
theorem dX7_rests_61 : decode cX7_rests 61 = .ok (.iconst (-1), 1) := dk_2 (dk_at dksX7_rests_2 15 rfl rfl)
theorem dX7_rests_62 : decode cX7_rests 62 = .ok (.ireturn, 1) := dk_172 (dk_at dksX7_rests_2 16 rfl rfl)
theorem dX7_rests_63 : decode cX7_rests 63 = .ok (.iconst 0, 1) := dk_3 (dk_at dksX7_rests_2 17 rfl rfl)
theorem dX7_rests_64 : decode cX7_rests 64 = .ok (.istore 4, 2) := dk_54 4 (dk_at dksX7_rests_2 18 rfl rfl)
theorem dX7_rests_66 : decode cX7_rests 66 = .ok (.iconst 0, 1) := dk_3 (dk_at dksX7_rests_2 20 rfl rfl)
theorem dX7_rests_67 : decode cX7_rests 67 = .ok (.istore 5, 2) := dk_54 5 (dk_at dksX7_rests_2 21 rfl rfl)
theorem dX7_rests_69 : decode cX7_rests 69 = .ok (.iload 5, 2) := dk_21 5 (dk_at dksX7_rests_3 0 rfl rfl)
theorem dX7_rests_71 : decode cX7_rests 71 = .ok (.iconst 4, 1) := dk_7 (dk_at dksX7_rests_3 2 rfl rfl)
theorem dX7_rests_72 : decode cX7_rests 72 = .ok (.if_icmp .ge 80, 3) := dk_162 0 80 (dk_at dksX7_rests_3 3 rfl rfl)
theorem dX7_rests_75 : decode cX7_rests 75 = .ok (.iload 5, 2) := dk_21 5 (dk_at dksX7_rests_3 6 rfl rfl)
theorem dX7_rests_77 : decode cX7_rests 77 = .ok (.iconst 2, 1) := dk_5 (dk_at dksX7_rests_3 8 rfl rfl)
theorem dX7_rests_78 : decode cX7_rests 78 = .ok (.idiv, 1) := dk_108 (dk_at dksX7_rests_3 9 rfl rfl)
theorem dX7_rests_79 : decode cX7_rests 79 = .ok (.istore 6, 2) := dk_54 6 (dk_at dksX7_rests_3 10 rfl rfl)
theorem dX7_rests_81 : decode cX7_rests 81 = .ok (.iload 5, 2) := dk_21 5 (dk_at dksX7_rests_3 12 rfl rfl)
theorem dX7_rests_83 : decode cX7_rests 83 = .ok (.iconst 2, 1) := dk_5 (dk_at dksX7_rests_3 14 rfl rfl)
theorem dX7_rests_84 : decode cX7_rests 84 = .ok (.irem, 1) := dk_112 (dk_at dksX7_rests_3 15 rfl rfl)
theorem dX7_rests_85 : decode cX7_rests 85 = .ok (.istore 7, 2) := dk_54 7 (dk_at dksX7_rests_3 16 rfl rfl)
theorem dX7_rests_87 : decode cX7_rests 87 = .ok (.aload_n 0, 1) := dk_42 (dk_at dksX7_rests_3 18 rfl rfl)
theorem dX7_rests_88 : decode cX7_rests 88 = .ok (.iload_n 3, 1) := dk_29 (dk_at dksX7_rests_3 19 rfl rfl)
theorem dX7_rests_89 : decode cX7_rests 89 = .ok (.iload_n 1, 1) := dk_27 (dk_at dksX7_rests_3 20 rfl rfl)
theorem dX7_rests_90 : decode cX7_rests 90 = .ok (.iconst 1, 1) := dk_4 (dk_at dksX7_rests_3 21 rfl rfl)
theorem dX7_rests_91 : decode cX7_rests 91 = .ok (.iload 6, 2) := dk_21 6 (dk_at dksX7_rests_3 22 rfl rfl)
theorem dX7_rests_93 : decode cX7_rests 93 = .ok (.isub, 1) := dk_100 (dk_at dksX7_rests_4 0 rfl rfl)
theorem dX7_rests_94 : decode cX7_rests 94 = .ok (.iload 7, 2) := dk_21 7 (dk_at dksX7_rests_4 1 rfl rfl)
theorem dX7_rests_96 : decode cX7_rests 96 = .ok (.invokevirtual 387, 3) := dk_182 1 131 (dk_at dksX7_rests_4 3 rfl rfl)
theorem dX7_rests_99 : decode cX7_rests 99 = .ok (.aload_n 0, 1) := dk_42 (dk_at dksX7_rests_4 6 rfl rfl)
theorem dX7_rests_100 : decode cX7_rests 100 = .ok (.iload_n 3, 1) := dk_29 (dk_at dksX7_rests_4 7 rfl rfl)
theorem dX7_rests_101 : decode cX7_rests 101 = .ok (.iload_n 1, 1) := dk_27 (dk_at dksX7_rests_4 8 rfl rfl)
theorem dX7_rests_102 : decode cX7_rests 102 = .ok (.iload 6, 2) := dk_21 6 (dk_at dksX7_rests_4 9 rfl rfl)
theorem dX7_rests_104 : decode cX7_rests 104 = .ok (.iload 7, 2) := dk_21 7 (dk_at dksX7_rests_4 11 rfl rfl)
theorem dX7_rests_106 : decode cX7_rests 106 = .ok (.invokevirtual 387, 3) := dk_182 1 131 (dk_at dksX7_rests_4 13 rfl rfl)
theorem dX7_rests_109 : decode cX7_rests 109 = .ok (.if_icmp .gt 37, 3) := dk_163 0 37 (dk_at dksX7_rests_4 16 rfl rfl)
theorem dX7_rests_112 : decode cX7_rests 112 = .ok (.aload_n 0, 1) := dk_42 (dk_at dksX7_rests_4 19 rfl rfl)
theorem dX7_rests_113 : decode cX7_rests 113 = .ok (.iload_n 3, 1) := dk_29 (dk_at dksX7_rests_4 20 rfl rfl)
theorem dX7_rests_114 : decode cX7_rests 114 = .ok (.iload_n 2, 1) := dk_28 (dk_at dksX7_rests_4 21 rfl rfl)
theorem dX7_rests_115 : decode cX7_rests 115 = .ok (.iconst 1, 1) := dk_4 (dk_at dksX7_rests_4 22 rfl rfl)
theorem dX7_rests_116 : decode cX7_rests 116 = .ok (.iload 7, 2) := dk_21 7 (dk_at dksX7_rests_5 0 rfl rfl)
theorem dX7_rests_118 : decode cX7_rests 118 = .ok (.isub, 1) := dk_100 (dk_at dksX7_rests_5 2 rfl rfl)
theorem dX7_rests_119 : decode cX7_rests 119 = .ok (.iload 6, 2) := dk_21 6 (dk_at dksX7_rests_5 3 rfl rfl)
theorem dX7_rests_121 : decode cX7_rests 121 = .ok (.invokevirtual 387, 3) := dk_182 1 131 (dk_at dksX7_rests_5 5 rfl rfl)
theorem dX7_rests_124 : decode cX7_rests 124 = .ok (.aload_n 0, 1) := dk_42 (dk_at dksX7_rests_5 8 rfl rfl)
theorem dX7_rests_125 : decode cX7_rests 125 = .ok (.iload_n 3, 1) := dk_29 (dk_at dksX7_rests_5 9 rfl rfl)
theorem dX7_rests_126 : decode cX7_rests 126 = .ok (.iload_n 2, 1) := dk_28 (dk_at dksX7_rests_5 10 rfl rfl)
theorem dX7_rests_127 : decode cX7_rests 127 = .ok (.iload 7, 2) := dk_21 7 (dk_at dksX7_rests_5 11 rfl rfl)
theorem dX7_rests_129 : decode cX7_rests 129 = .ok (.iload 6, 2) := dk_21 6 (dk_at dksX7_rests_5 13 rfl rfl)
theorem dX7_rests_131 : decode cX7_rests 131 = .ok (.invokevirtual 387, 3) := dk_182 1 131 (dk_at dksX7_rests_5 15 rfl rfl)
theorem dX7_rests_134 : decode cX7_rests 134 = .ok (.if_icmp .gt 12, 3) := dk_163 0 12 (dk_at dksX7_rests_5 18 rfl rfl)
theorem dX7_rests_137 : decode cX7_rests 137 = .ok (.iload 4, 2) := dk_21 4 (dk_at dksX7_rests_5 21 rfl rfl)
theorem dX7_rests_139 : decode cX7_rests 139 = .ok (.iconst 1, 1) := dk_4 (dk_at dksX7_rests_5 23 rfl rfl)
theorem dX7_rests_140 : decode cX7_rests 140 = .ok (.iload 5, 2) := dk_21 5 (dk_at dksX7_rests_6 0 rfl rfl)
theorem dX7_rests_142 : decode cX7_rests 142 = .ok (.ishl, 1) := dk_120 (dk_at dksX7_rests_6 2 rfl rfl)
theorem dX7_rests_143 : decode cX7_rests 143 = .ok (.ior, 1) := dk_128 (dk_at dksX7_rests_6 3 rfl rfl)
theorem dX7_rests_144 : decode cX7_rests 144 = .ok (.istore 4, 2) := dk_54 4 (dk_at dksX7_rests_6 4 rfl rfl)
theorem dX7_rests_146 : decode cX7_rests 146 = .ok (.iinc 5 1, 3) := dk_132 5 1 (dk_at dksX7_rests_6 6 rfl rfl)
theorem dX7_rests_149 : decode cX7_rests 149 = .ok (.goto (-80), 3) := dk_167 255 176 (dk_at dksX7_rests_6 9 rfl rfl)
theorem dX7_rests_152 : decode cX7_rests 152 = .ok (.iload 4, 2) := dk_21 4 (dk_at dksX7_rests_6 12 rfl rfl)
theorem dX7_rests_154 : decode cX7_rests 154 = .ok (.ireturn, 1) := dk_172 (dk_at dksX7_rests_6 14 rfl rfl)
abbrev cX7_hasBy : ByteArray := prog_20_method_113_code
def yX7_hasBy : MethodName := ⟨RX7, "hasBy", "(IIII)I"⟩
def dkwX7_hasBy_3 : List UInt8 := [27, 182, 1, 81, 5, 108, 167, 0, 8, 42, 27, 182, 1, 81, 100, 172]
abbrev dktX7_hasBy_3 : List UInt8 := dkwX7_hasBy_3 ++ []
def dkwX7_hasBy_2 : List UInt8 := [116, 167, 0, 4, 3, 54, 5, 21, 5, 29, 4, 160, 0, 7, 3, 167, 0, 23, 21, 4, 154, 0, 13, 42]
abbrev dktX7_hasBy_2 : List UInt8 := dkwX7_hasBy_2 ++ dktX7_hasBy_3
def dkwX7_hasBy_1 : List UInt8 := [27, 6, 182, 0, 52, 167, 0, 24, 28, 42, 27, 4, 182, 0, 52, 160, 0, 13, 42, 27, 6, 182, 0, 52]
abbrev dktX7_hasBy_1 : List UInt8 := dkwX7_hasBy_1 ++ dktX7_hasBy_2
def dkwX7_hasBy_0 : List UInt8 := [29, 4, 160, 0, 11, 21, 4, 4, 160, 0, 5, 3, 172, 28, 42, 27, 5, 182, 0, 52, 160, 0, 12, 42]
abbrev dktX7_hasBy_0 : List UInt8 := dkwX7_hasBy_0 ++ dktX7_hasBy_1
theorem dksX7_hasBy_0 : cX7_hasBy.data.toList.drop 0 = dktX7_hasBy_0 := by decide +kernel
theorem dksX7_hasBy_1 : cX7_hasBy.data.toList.drop 24 = dktX7_hasBy_1 := dk_seg dksX7_hasBy_0 24 rfl rfl
theorem dksX7_hasBy_2 : cX7_hasBy.data.toList.drop 48 = dktX7_hasBy_2 := dk_seg dksX7_hasBy_1 24 rfl rfl
theorem dksX7_hasBy_3 : cX7_hasBy.data.toList.drop 72 = dktX7_hasBy_3 := dk_seg dksX7_hasBy_2 24 rfl rfl
theorem dX7_hasBy_0 : decode cX7_hasBy 0 = .ok (.iload_n 3, 1) := dk_29 (dk_at dksX7_hasBy_0 0 rfl rfl)
theorem dX7_hasBy_1 : decode cX7_hasBy 1 = .ok (.iconst 1, 1) := dk_4 (dk_at dksX7_hasBy_0 1 rfl rfl)
theorem dX7_hasBy_2 : decode cX7_hasBy 2 = .ok (.if_icmp .ne 11, 3) := dk_160 0 11 (dk_at dksX7_hasBy_0 2 rfl rfl)
theorem dX7_hasBy_5 : decode cX7_hasBy 5 = .ok (.iload 4, 2) := dk_21 4 (dk_at dksX7_hasBy_0 5 rfl rfl)
theorem dX7_hasBy_7 : decode cX7_hasBy 7 = .ok (.iconst 1, 1) := dk_4 (dk_at dksX7_hasBy_0 7 rfl rfl)
theorem dX7_hasBy_8 : decode cX7_hasBy 8 = .ok (.if_icmp .ne 5, 3) := dk_160 0 5 (dk_at dksX7_hasBy_0 8 rfl rfl)
theorem dX7_hasBy_11 : decode cX7_hasBy 11 = .ok (.iconst 0, 1) := dk_3 (dk_at dksX7_hasBy_0 11 rfl rfl)
theorem dX7_hasBy_12 : decode cX7_hasBy 12 = .ok (.ireturn, 1) := dk_172 (dk_at dksX7_hasBy_0 12 rfl rfl)
theorem dX7_hasBy_13 : decode cX7_hasBy 13 = .ok (.iload_n 2, 1) := dk_28 (dk_at dksX7_hasBy_0 13 rfl rfl)
theorem dX7_hasBy_14 : decode cX7_hasBy 14 = .ok (.aload_n 0, 1) := dk_42 (dk_at dksX7_hasBy_0 14 rfl rfl)
theorem dX7_hasBy_15 : decode cX7_hasBy 15 = .ok (.iload_n 1, 1) := dk_27 (dk_at dksX7_hasBy_0 15 rfl rfl)
theorem dX7_hasBy_16 : decode cX7_hasBy 16 = .ok (.iconst 2, 1) := dk_5 (dk_at dksX7_hasBy_0 16 rfl rfl)
theorem dX7_hasBy_17 : decode cX7_hasBy 17 = .ok (.invokevirtual 52, 3) := dk_182 0 52 (dk_at dksX7_hasBy_0 17 rfl rfl)
theorem dX7_hasBy_20 : decode cX7_hasBy 20 = .ok (.if_icmp .ne 12, 3) := dk_160 0 12 (dk_at dksX7_hasBy_0 20 rfl rfl)
theorem dX7_hasBy_23 : decode cX7_hasBy 23 = .ok (.aload_n 0, 1) := dk_42 (dk_at dksX7_hasBy_0 23 rfl rfl)
theorem dX7_hasBy_24 : decode cX7_hasBy 24 = .ok (.iload_n 1, 1) := dk_27 (dk_at dksX7_hasBy_1 0 rfl rfl)
theorem dX7_hasBy_25 : decode cX7_hasBy 25 = .ok (.iconst 3, 1) := dk_6 (dk_at dksX7_hasBy_1 1 rfl rfl)
theorem dX7_hasBy_26 : decode cX7_hasBy 26 = .ok (.invokevirtual 52, 3) := dk_182 0 52 (dk_at dksX7_hasBy_1 2 rfl rfl)
theorem dX7_hasBy_29 : decode cX7_hasBy 29 = .ok (.goto 24, 3) := dk_167 0 24 (dk_at dksX7_hasBy_1 5 rfl rfl)
theorem dX7_hasBy_32 : decode cX7_hasBy 32 = .ok (.iload_n 2, 1) := dk_28 (dk_at dksX7_hasBy_1 8 rfl rfl)
theorem dX7_hasBy_33 : decode cX7_hasBy 33 = .ok (.aload_n 0, 1) := dk_42 (dk_at dksX7_hasBy_1 9 rfl rfl)
theorem dX7_hasBy_34 : decode cX7_hasBy 34 = .ok (.iload_n 1, 1) := dk_27 (dk_at dksX7_hasBy_1 10 rfl rfl)
theorem dX7_hasBy_35 : decode cX7_hasBy 35 = .ok (.iconst 1, 1) := dk_4 (dk_at dksX7_hasBy_1 11 rfl rfl)
theorem dX7_hasBy_36 : decode cX7_hasBy 36 = .ok (.invokevirtual 52, 3) := dk_182 0 52 (dk_at dksX7_hasBy_1 12 rfl rfl)
theorem dX7_hasBy_39 : decode cX7_hasBy 39 = .ok (.if_icmp .ne 13, 3) := dk_160 0 13 (dk_at dksX7_hasBy_1 15 rfl rfl)
theorem dX7_hasBy_42 : decode cX7_hasBy 42 = .ok (.aload_n 0, 1) := dk_42 (dk_at dksX7_hasBy_1 18 rfl rfl)
theorem dX7_hasBy_43 : decode cX7_hasBy 43 = .ok (.iload_n 1, 1) := dk_27 (dk_at dksX7_hasBy_1 19 rfl rfl)
theorem dX7_hasBy_44 : decode cX7_hasBy 44 = .ok (.iconst 3, 1) := dk_6 (dk_at dksX7_hasBy_1 20 rfl rfl)
theorem dX7_hasBy_45 : decode cX7_hasBy 45 = .ok (.invokevirtual 52, 3) := dk_182 0 52 (dk_at dksX7_hasBy_1 21 rfl rfl)
theorem dX7_hasBy_48 : decode cX7_hasBy 48 = .ok (.ineg, 1) := dk_116 (dk_at dksX7_hasBy_2 0 rfl rfl)
theorem dX7_hasBy_49 : decode cX7_hasBy 49 = .ok (.goto 4, 3) := dk_167 0 4 (dk_at dksX7_hasBy_2 1 rfl rfl)
theorem dX7_hasBy_52 : decode cX7_hasBy 52 = .ok (.iconst 0, 1) := dk_3 (dk_at dksX7_hasBy_2 4 rfl rfl)
theorem dX7_hasBy_53 : decode cX7_hasBy 53 = .ok (.istore 5, 2) := dk_54 5 (dk_at dksX7_hasBy_2 5 rfl rfl)
theorem dX7_hasBy_55 : decode cX7_hasBy 55 = .ok (.iload 5, 2) := dk_21 5 (dk_at dksX7_hasBy_2 7 rfl rfl)
theorem dX7_hasBy_57 : decode cX7_hasBy 57 = .ok (.iload_n 3, 1) := dk_29 (dk_at dksX7_hasBy_2 9 rfl rfl)
theorem dX7_hasBy_58 : decode cX7_hasBy 58 = .ok (.iconst 1, 1) := dk_4 (dk_at dksX7_hasBy_2 10 rfl rfl)
theorem dX7_hasBy_59 : decode cX7_hasBy 59 = .ok (.if_icmp .ne 7, 3) := dk_160 0 7 (dk_at dksX7_hasBy_2 11 rfl rfl)
theorem dX7_hasBy_62 : decode cX7_hasBy 62 = .ok (.iconst 0, 1) := dk_3 (dk_at dksX7_hasBy_2 14 rfl rfl)
theorem dX7_hasBy_63 : decode cX7_hasBy 63 = .ok (.goto 23, 3) := dk_167 0 23 (dk_at dksX7_hasBy_2 15 rfl rfl)
theorem dX7_hasBy_66 : decode cX7_hasBy 66 = .ok (.iload 4, 2) := dk_21 4 (dk_at dksX7_hasBy_2 18 rfl rfl)
theorem dX7_hasBy_68 : decode cX7_hasBy 68 = .ok (.ifCond .ne 13, 3) := dk_154 0 13 (dk_at dksX7_hasBy_2 20 rfl rfl)
theorem dX7_hasBy_71 : decode cX7_hasBy 71 = .ok (.aload_n 0, 1) := dk_42 (dk_at dksX7_hasBy_2 23 rfl rfl)
theorem dX7_hasBy_72 : decode cX7_hasBy 72 = .ok (.iload_n 1, 1) := dk_27 (dk_at dksX7_hasBy_3 0 rfl rfl)
theorem dX7_hasBy_73 : decode cX7_hasBy 73 = .ok (.invokevirtual 337, 3) := dk_182 1 81 (dk_at dksX7_hasBy_3 1 rfl rfl)
theorem dX7_hasBy_76 : decode cX7_hasBy 76 = .ok (.iconst 2, 1) := dk_5 (dk_at dksX7_hasBy_3 4 rfl rfl)
theorem dX7_hasBy_77 : decode cX7_hasBy 77 = .ok (.idiv, 1) := dk_108 (dk_at dksX7_hasBy_3 5 rfl rfl)
theorem dX7_hasBy_78 : decode cX7_hasBy 78 = .ok (.goto 8, 3) := dk_167 0 8 (dk_at dksX7_hasBy_3 6 rfl rfl)
theorem dX7_hasBy_81 : decode cX7_hasBy 81 = .ok (.aload_n 0, 1) := dk_42 (dk_at dksX7_hasBy_3 9 rfl rfl)
theorem dX7_hasBy_82 : decode cX7_hasBy 82 = .ok (.iload_n 1, 1) := dk_27 (dk_at dksX7_hasBy_3 10 rfl rfl)
theorem dX7_hasBy_83 : decode cX7_hasBy 83 = .ok (.invokevirtual 337, 3) := dk_182 1 81 (dk_at dksX7_hasBy_3 11 rfl rfl)
theorem dX7_hasBy_86 : decode cX7_hasBy 86 = .ok (.isub, 1) := dk_100 (dk_at dksX7_hasBy_3 14 rfl rfl)
theorem dX7_hasBy_87 : decode cX7_hasBy 87 = .ok (.ireturn, 1) := dk_172 (dk_at dksX7_hasBy_3 15 rfl rfl)
abbrev cX7_odds : ByteArray := prog_20_method_115_code
def yX7_odds : MethodName := ⟨RX7, "odds", "(II)I"⟩
def dkwX7_odds_7 : List UInt8 := [109, 136, 172]
abbrev dktX7_odds_7 : List UInt8 := dkwX7_odds_7 ++ []
def dkwX7_odds_6 : List UInt8 := [132, 10, 1, 167, 255, 210, 33, 22, 8, 97, 66, 132, 7, 1, 167, 255, 172, 20, 1, 137, 33, 105, 22, 5]
abbrev dktX7_odds_6 : List UInt8 := dkwX7_odds_6 ++ dktX7_odds_7
def dkwX7_odds_5 : List UInt8 := [180, 0, 7, 16, 8, 46, 133, 167, 0, 14, 16, 100, 42, 180, 0, 7, 16, 8, 46, 100, 133, 105, 55, 8]
abbrev dktX7_odds_5 : List UInt8 := dkwX7_odds_5 ++ dktX7_odds_6
def dkwX7_odds_4 : List UInt8 := [3, 54, 10, 21, 10, 27, 162, 0, 46, 22, 8, 21, 7, 21, 10, 184, 0, 56, 153, 0, 14, 42]
abbrev dktX7_odds_4 : List UInt8 := dkwX7_odds_4 ++ dktX7_odds_5
def dkwX7_odds_3 : List UInt8 := [21, 7, 4, 27, 120, 162, 0, 82, 21, 7, 184, 1, 113, 28, 162, 0, 7, 9, 167, 0, 4, 10, 55, 8]
abbrev dktX7_odds_3 : List UInt8 := dkwX7_odds_3 ++ dktX7_odds_4
def dkwX7_odds_2 : List UInt8 := [21, 7, 27, 162, 0, 17, 22, 5, 20, 1, 135, 105, 55, 5, 132, 7, 1, 167, 255, 239, 3, 54, 7]
abbrev dktX7_odds_2 : List UInt8 := dkwX7_odds_2 ++ dktX7_odds_3
def dkwX7_odds_1 : List UInt8 := [167, 0, 4, 3, 181, 0, 45, 42, 180, 0, 45, 158, 0, 5, 3, 172, 9, 66, 10, 55, 5, 3, 54, 7]
abbrev dktX7_odds_1 : List UInt8 := dkwX7_odds_1 ++ dktX7_odds_2
def dkwX7_odds_0 : List UInt8 := [42, 27, 3, 16, 6, 184, 0, 48, 153, 0, 13, 28, 3, 16, 6, 184, 0, 48, 154, 0, 7, 4]
abbrev dktX7_odds_0 : List UInt8 := dkwX7_odds_0 ++ dktX7_odds_1
theorem dksX7_odds_0 : cX7_odds.data.toList.drop 0 = dktX7_odds_0 := by decide +kernel
theorem dksX7_odds_1 : cX7_odds.data.toList.drop 22 = dktX7_odds_1 := dk_seg dksX7_odds_0 22 rfl rfl
theorem dksX7_odds_2 : cX7_odds.data.toList.drop 46 = dktX7_odds_2 := dk_seg dksX7_odds_1 24 rfl rfl
theorem dksX7_odds_3 : cX7_odds.data.toList.drop 69 = dktX7_odds_3 := dk_seg dksX7_odds_2 23 rfl rfl
theorem dksX7_odds_4 : cX7_odds.data.toList.drop 93 = dktX7_odds_4 := dk_seg dksX7_odds_3 24 rfl rfl
theorem dksX7_odds_5 : cX7_odds.data.toList.drop 115 = dktX7_odds_5 := dk_seg dksX7_odds_4 22 rfl rfl
theorem dksX7_odds_6 : cX7_odds.data.toList.drop 139 = dktX7_odds_6 := dk_seg dksX7_odds_5 24 rfl rfl
theorem dksX7_odds_7 : cX7_odds.data.toList.drop 163 = dktX7_odds_7 := dk_seg dksX7_odds_6 24 rfl rfl
theorem dX7_odds_0 : decode cX7_odds 0 = .ok (.aload_n 0, 1) := dk_42 (dk_at dksX7_odds_0 0 rfl rfl)
theorem dX7_odds_1 : decode cX7_odds 1 = .ok (.iload_n 1, 1) := dk_27 (dk_at dksX7_odds_0 1 rfl rfl)
theorem dX7_odds_2 : decode cX7_odds 2 = .ok (.iconst 0, 1) := dk_3 (dk_at dksX7_odds_0 2 rfl rfl)
theorem dX7_odds_3 : decode cX7_odds 3 = .ok (.bipush 6, 2) := dk_16 6 (dk_at dksX7_odds_0 3 rfl rfl)
theorem dX7_odds_5 : decode cX7_odds 5 = .ok (.invokestatic 48, 3) := dk_184 0 48 (dk_at dksX7_odds_0 5 rfl rfl)
theorem dX7_odds_8 : decode cX7_odds 8 = .ok (.ifCond .eq 13, 3) := dk_153 0 13 (dk_at dksX7_odds_0 8 rfl rfl)
theorem dX7_odds_11 : decode cX7_odds 11 = .ok (.iload_n 2, 1) := dk_28 (dk_at dksX7_odds_0 11 rfl rfl)
theorem dX7_odds_12 : decode cX7_odds 12 = .ok (.iconst 0, 1) := dk_3 (dk_at dksX7_odds_0 12 rfl rfl)
theorem dX7_odds_13 : decode cX7_odds 13 = .ok (.bipush 6, 2) := dk_16 6 (dk_at dksX7_odds_0 13 rfl rfl)
theorem dX7_odds_15 : decode cX7_odds 15 = .ok (.invokestatic 48, 3) := dk_184 0 48 (dk_at dksX7_odds_0 15 rfl rfl)
theorem dX7_odds_18 : decode cX7_odds 18 = .ok (.ifCond .ne 7, 3) := dk_154 0 7 (dk_at dksX7_odds_0 18 rfl rfl)
theorem dX7_odds_21 : decode cX7_odds 21 = .ok (.iconst 1, 1) := dk_4 (dk_at dksX7_odds_0 21 rfl rfl)
theorem dX7_odds_22 : decode cX7_odds 22 = .ok (.goto 4, 3) := dk_167 0 4 (dk_at dksX7_odds_1 0 rfl rfl)
theorem dX7_odds_25 : decode cX7_odds 25 = .ok (.iconst 0, 1) := dk_3 (dk_at dksX7_odds_1 3 rfl rfl)
theorem dX7_odds_26 : decode cX7_odds 26 = .ok (.putfield 45, 3) := dk_181 0 45 (dk_at dksX7_odds_1 4 rfl rfl)
theorem dX7_odds_29 : decode cX7_odds 29 = .ok (.aload_n 0, 1) := dk_42 (dk_at dksX7_odds_1 7 rfl rfl)
theorem dX7_odds_30 : decode cX7_odds 30 = .ok (.getfield 45, 3) := dk_180 0 45 (dk_at dksX7_odds_1 8 rfl rfl)
theorem dX7_odds_33 : decode cX7_odds 33 = .ok (.ifCond .le 5, 3) := dk_158 0 5 (dk_at dksX7_odds_1 11 rfl rfl)
theorem dX7_odds_36 : decode cX7_odds 36 = .ok (.iconst 0, 1) := dk_3 (dk_at dksX7_odds_1 14 rfl rfl)
theorem dX7_odds_37 : decode cX7_odds 37 = .ok (.ireturn, 1) := dk_172 (dk_at dksX7_odds_1 15 rfl rfl)
theorem dX7_odds_38 : decode cX7_odds 38 = .ok (.lconst 0, 1) := dk_9 (dk_at dksX7_odds_1 16 rfl rfl)
theorem dX7_odds_39 : decode cX7_odds 39 = .ok (.lstore_n 3, 1) := dk_66 (dk_at dksX7_odds_1 17 rfl rfl)
theorem dX7_odds_40 : decode cX7_odds 40 = .ok (.lconst 1, 1) := dk_10 (dk_at dksX7_odds_1 18 rfl rfl)
theorem dX7_odds_41 : decode cX7_odds 41 = .ok (.lstore 5, 2) := dk_55 5 (dk_at dksX7_odds_1 19 rfl rfl)
theorem dX7_odds_43 : decode cX7_odds 43 = .ok (.iconst 0, 1) := dk_3 (dk_at dksX7_odds_1 21 rfl rfl)
theorem dX7_odds_44 : decode cX7_odds 44 = .ok (.istore 7, 2) := dk_54 7 (dk_at dksX7_odds_1 22 rfl rfl)
theorem dX7_odds_46 : decode cX7_odds 46 = .ok (.iload 7, 2) := dk_21 7 (dk_at dksX7_odds_2 0 rfl rfl)
theorem dX7_odds_48 : decode cX7_odds 48 = .ok (.iload_n 1, 1) := dk_27 (dk_at dksX7_odds_2 2 rfl rfl)
theorem dX7_odds_49 : decode cX7_odds 49 = .ok (.if_icmp .ge 17, 3) := dk_162 0 17 (dk_at dksX7_odds_2 3 rfl rfl)
theorem dX7_odds_52 : decode cX7_odds 52 = .ok (.lload 5, 2) := dk_22 5 (dk_at dksX7_odds_2 6 rfl rfl)
theorem dX7_odds_54 : decode cX7_odds 54 = .ok (.ldc2_w 391, 3) := dk_20 1 135 (dk_at dksX7_odds_2 8 rfl rfl)
theorem dX7_odds_57 : decode cX7_odds 57 = .ok (.lmul, 1) := dk_105 (dk_at dksX7_odds_2 11 rfl rfl)
theorem dX7_odds_58 : decode cX7_odds 58 = .ok (.lstore 5, 2) := dk_55 5 (dk_at dksX7_odds_2 12 rfl rfl)
theorem dX7_odds_60 : decode cX7_odds 60 = .ok (.iinc 7 1, 3) := dk_132 7 1 (dk_at dksX7_odds_2 14 rfl rfl)
theorem dX7_odds_63 : decode cX7_odds 63 = .ok (.goto (-17), 3) := dk_167 255 239 (dk_at dksX7_odds_2 17 rfl rfl)
theorem dX7_odds_66 : decode cX7_odds 66 = .ok (.iconst 0, 1) := dk_3 (dk_at dksX7_odds_2 20 rfl rfl)
theorem dX7_odds_67 : decode cX7_odds 67 = .ok (.istore 7, 2) := dk_54 7 (dk_at dksX7_odds_2 21 rfl rfl)
theorem dX7_odds_69 : decode cX7_odds 69 = .ok (.iload 7, 2) := dk_21 7 (dk_at dksX7_odds_3 0 rfl rfl)
theorem dX7_odds_71 : decode cX7_odds 71 = .ok (.iconst 1, 1) := dk_4 (dk_at dksX7_odds_3 2 rfl rfl)
theorem dX7_odds_72 : decode cX7_odds 72 = .ok (.iload_n 1, 1) := dk_27 (dk_at dksX7_odds_3 3 rfl rfl)
theorem dX7_odds_73 : decode cX7_odds 73 = .ok (.ishl, 1) := dk_120 (dk_at dksX7_odds_3 4 rfl rfl)
theorem dX7_odds_74 : decode cX7_odds 74 = .ok (.if_icmp .ge 82, 3) := dk_162 0 82 (dk_at dksX7_odds_3 5 rfl rfl)
theorem dX7_odds_77 : decode cX7_odds 77 = .ok (.iload 7, 2) := dk_21 7 (dk_at dksX7_odds_3 8 rfl rfl)
theorem dX7_odds_79 : decode cX7_odds 79 = .ok (.invokestatic 369, 3) := dk_184 1 113 (dk_at dksX7_odds_3 10 rfl rfl)
theorem dX7_odds_82 : decode cX7_odds 82 = .ok (.iload_n 2, 1) := dk_28 (dk_at dksX7_odds_3 13 rfl rfl)
theorem dX7_odds_83 : decode cX7_odds 83 = .ok (.if_icmp .ge 7, 3) := dk_162 0 7 (dk_at dksX7_odds_3 14 rfl rfl)
theorem dX7_odds_86 : decode cX7_odds 86 = .ok (.lconst 0, 1) := dk_9 (dk_at dksX7_odds_3 17 rfl rfl)
theorem dX7_odds_87 : decode cX7_odds 87 = .ok (.goto 4, 3) := dk_167 0 4 (dk_at dksX7_odds_3 18 rfl rfl)
theorem dX7_odds_90 : decode cX7_odds 90 = .ok (.lconst 1, 1) := dk_10 (dk_at dksX7_odds_3 21 rfl rfl)
theorem dX7_odds_91 : decode cX7_odds 91 = .ok (.lstore 8, 2) := dk_55 8 (dk_at dksX7_odds_3 22 rfl rfl)
theorem dX7_odds_93 : decode cX7_odds 93 = .ok (.iconst 0, 1) := dk_3 (dk_at dksX7_odds_4 0 rfl rfl)
theorem dX7_odds_94 : decode cX7_odds 94 = .ok (.istore 10, 2) := dk_54 10 (dk_at dksX7_odds_4 1 rfl rfl)
theorem dX7_odds_96 : decode cX7_odds 96 = .ok (.iload 10, 2) := dk_21 10 (dk_at dksX7_odds_4 3 rfl rfl)
theorem dX7_odds_98 : decode cX7_odds 98 = .ok (.iload_n 1, 1) := dk_27 (dk_at dksX7_odds_4 5 rfl rfl)
theorem dX7_odds_99 : decode cX7_odds 99 = .ok (.if_icmp .ge 46, 3) := dk_162 0 46 (dk_at dksX7_odds_4 6 rfl rfl)
theorem dX7_odds_102 : decode cX7_odds 102 = .ok (.lload 8, 2) := dk_22 8 (dk_at dksX7_odds_4 9 rfl rfl)
theorem dX7_odds_104 : decode cX7_odds 104 = .ok (.iload 7, 2) := dk_21 7 (dk_at dksX7_odds_4 11 rfl rfl)
theorem dX7_odds_106 : decode cX7_odds 106 = .ok (.iload 10, 2) := dk_21 10 (dk_at dksX7_odds_4 13 rfl rfl)
theorem dX7_odds_108 : decode cX7_odds 108 = .ok (.invokestatic 56, 3) := dk_184 0 56 (dk_at dksX7_odds_4 15 rfl rfl)
theorem dX7_odds_111 : decode cX7_odds 111 = .ok (.ifCond .eq 14, 3) := dk_153 0 14 (dk_at dksX7_odds_4 18 rfl rfl)
theorem dX7_odds_114 : decode cX7_odds 114 = .ok (.aload_n 0, 1) := dk_42 (dk_at dksX7_odds_4 21 rfl rfl)
theorem dX7_odds_115 : decode cX7_odds 115 = .ok (.getfield 7, 3) := dk_180 0 7 (dk_at dksX7_odds_5 0 rfl rfl)
theorem dX7_odds_118 : decode cX7_odds 118 = .ok (.bipush 8, 2) := dk_16 8 (dk_at dksX7_odds_5 3 rfl rfl)
theorem dX7_odds_120 : decode cX7_odds 120 = .ok (.iaload, 1) := dk_46 (dk_at dksX7_odds_5 5 rfl rfl)
theorem dX7_odds_121 : decode cX7_odds 121 = .ok (.i2l, 1) := dk_133 (dk_at dksX7_odds_5 6 rfl rfl)
theorem dX7_odds_122 : decode cX7_odds 122 = .ok (.goto 14, 3) := dk_167 0 14 (dk_at dksX7_odds_5 7 rfl rfl)
theorem dX7_odds_125 : decode cX7_odds 125 = .ok (.bipush 100, 2) := dk_16 100 (dk_at dksX7_odds_5 10 rfl rfl)
theorem dX7_odds_127 : decode cX7_odds 127 = .ok (.aload_n 0, 1) := dk_42 (dk_at dksX7_odds_5 12 rfl rfl)
theorem dX7_odds_128 : decode cX7_odds 128 = .ok (.getfield 7, 3) := dk_180 0 7 (dk_at dksX7_odds_5 13 rfl rfl)
theorem dX7_odds_131 : decode cX7_odds 131 = .ok (.bipush 8, 2) := dk_16 8 (dk_at dksX7_odds_5 16 rfl rfl)
theorem dX7_odds_133 : decode cX7_odds 133 = .ok (.iaload, 1) := dk_46 (dk_at dksX7_odds_5 18 rfl rfl)
theorem dX7_odds_134 : decode cX7_odds 134 = .ok (.isub, 1) := dk_100 (dk_at dksX7_odds_5 19 rfl rfl)
theorem dX7_odds_135 : decode cX7_odds 135 = .ok (.i2l, 1) := dk_133 (dk_at dksX7_odds_5 20 rfl rfl)
theorem dX7_odds_136 : decode cX7_odds 136 = .ok (.lmul, 1) := dk_105 (dk_at dksX7_odds_5 21 rfl rfl)
theorem dX7_odds_137 : decode cX7_odds 137 = .ok (.lstore 8, 2) := dk_55 8 (dk_at dksX7_odds_5 22 rfl rfl)
theorem dX7_odds_139 : decode cX7_odds 139 = .ok (.iinc 10 1, 3) := dk_132 10 1 (dk_at dksX7_odds_6 0 rfl rfl)
theorem dX7_odds_142 : decode cX7_odds 142 = .ok (.goto (-46), 3) := dk_167 255 210 (dk_at dksX7_odds_6 3 rfl rfl)
theorem dX7_odds_145 : decode cX7_odds 145 = .ok (.lload_n 3, 1) := dk_33 (dk_at dksX7_odds_6 6 rfl rfl)
theorem dX7_odds_146 : decode cX7_odds 146 = .ok (.lload 8, 2) := dk_22 8 (dk_at dksX7_odds_6 7 rfl rfl)
theorem dX7_odds_148 : decode cX7_odds 148 = .ok (.ladd, 1) := dk_97 (dk_at dksX7_odds_6 9 rfl rfl)
theorem dX7_odds_149 : decode cX7_odds 149 = .ok (.lstore_n 3, 1) := dk_66 (dk_at dksX7_odds_6 10 rfl rfl)
theorem dX7_odds_150 : decode cX7_odds 150 = .ok (.iinc 7 1, 3) := dk_132 7 1 (dk_at dksX7_odds_6 11 rfl rfl)
theorem dX7_odds_153 : decode cX7_odds 153 = .ok (.goto (-84), 3) := dk_167 255 172 (dk_at dksX7_odds_6 14 rfl rfl)
theorem dX7_odds_156 : decode cX7_odds 156 = .ok (.ldc2_w 393, 3) := dk_20 1 137 (dk_at dksX7_odds_6 17 rfl rfl)
theorem dX7_odds_159 : decode cX7_odds 159 = .ok (.lload_n 3, 1) := dk_33 (dk_at dksX7_odds_6 20 rfl rfl)
theorem dX7_odds_160 : decode cX7_odds 160 = .ok (.lmul, 1) := dk_105 (dk_at dksX7_odds_6 21 rfl rfl)
theorem dX7_odds_161 : decode cX7_odds 161 = .ok (.lload 5, 2) := dk_22 5 (dk_at dksX7_odds_6 22 rfl rfl)
theorem dX7_odds_163 : decode cX7_odds 163 = .ok (.ldiv, 1) := dk_109 (dk_at dksX7_odds_7 0 rfl rfl)
theorem dX7_odds_164 : decode cX7_odds 164 = .ok (.l2i, 1) := dk_136 (dk_at dksX7_odds_7 1 rfl rfl)
theorem dX7_odds_165 : decode cX7_odds 165 = .ok (.ireturn, 1) := dk_172 (dk_at dksX7_odds_7 2 rfl rfl)
abbrev cX7_early : ByteArray := prog_20_method_116_code
def yX7_early : MethodName := ⟨RX7, "early", "(I)I"⟩
def dkwX7_early_3 : List UInt8 := [28, 29, 100, 172]
abbrev dktX7_early_3 : List UInt8 := dkwX7_early_3 ++ []
def dkwX7_early_2 : List UInt8 := [27, 182, 1, 91, 62, 42, 3, 181, 1, 32, 28, 2, 159, 0, 8, 29, 2, 160, 0, 7, 3, 167, 0, 6]
abbrev dktX7_early_2 : List UInt8 := dkwX7_early_2 ++ dktX7_early_3
def dkwX7_early_1 : List UInt8 := [42, 27, 16, 10, 182, 0, 52, 153, 0, 5, 3, 172, 42, 27, 182, 1, 91, 61, 42, 4, 181, 1, 32, 42]
abbrev dktX7_early_1 : List UInt8 := dkwX7_early_1 ++ dktX7_early_2
def dkwX7_early_0 : List UInt8 := [42, 42, 27, 182, 1, 69, 154, 0, 7, 4, 167, 0, 4, 3, 181, 0, 45, 42, 180, 0, 45, 157, 0, 13]
abbrev dktX7_early_0 : List UInt8 := dkwX7_early_0 ++ dktX7_early_1
theorem dksX7_early_0 : cX7_early.data.toList.drop 0 = dktX7_early_0 := by decide +kernel
theorem dksX7_early_1 : cX7_early.data.toList.drop 24 = dktX7_early_1 := dk_seg dksX7_early_0 24 rfl rfl
theorem dksX7_early_2 : cX7_early.data.toList.drop 48 = dktX7_early_2 := dk_seg dksX7_early_1 24 rfl rfl
theorem dksX7_early_3 : cX7_early.data.toList.drop 72 = dktX7_early_3 := dk_seg dksX7_early_2 24 rfl rfl
theorem dX7_early_0 : decode cX7_early 0 = .ok (.aload_n 0, 1) := dk_42 (dk_at dksX7_early_0 0 rfl rfl)
theorem dX7_early_1 : decode cX7_early 1 = .ok (.aload_n 0, 1) := dk_42 (dk_at dksX7_early_0 1 rfl rfl)
theorem dX7_early_2 : decode cX7_early 2 = .ok (.iload_n 1, 1) := dk_27 (dk_at dksX7_early_0 2 rfl rfl)
theorem dX7_early_3 : decode cX7_early 3 = .ok (.invokevirtual 325, 3) := dk_182 1 69 (dk_at dksX7_early_0 3 rfl rfl)
theorem dX7_early_6 : decode cX7_early 6 = .ok (.ifCond .ne 7, 3) := dk_154 0 7 (dk_at dksX7_early_0 6 rfl rfl)
theorem dX7_early_9 : decode cX7_early 9 = .ok (.iconst 1, 1) := dk_4 (dk_at dksX7_early_0 9 rfl rfl)
theorem dX7_early_10 : decode cX7_early 10 = .ok (.goto 4, 3) := dk_167 0 4 (dk_at dksX7_early_0 10 rfl rfl)
theorem dX7_early_13 : decode cX7_early 13 = .ok (.iconst 0, 1) := dk_3 (dk_at dksX7_early_0 13 rfl rfl)
theorem dX7_early_14 : decode cX7_early 14 = .ok (.putfield 45, 3) := dk_181 0 45 (dk_at dksX7_early_0 14 rfl rfl)
theorem dX7_early_17 : decode cX7_early 17 = .ok (.aload_n 0, 1) := dk_42 (dk_at dksX7_early_0 17 rfl rfl)
theorem dX7_early_18 : decode cX7_early 18 = .ok (.getfield 45, 3) := dk_180 0 45 (dk_at dksX7_early_0 18 rfl rfl)
theorem dX7_early_21 : decode cX7_early 21 = .ok (.ifCond .gt 13, 3) := dk_157 0 13 (dk_at dksX7_early_0 21 rfl rfl)
theorem dX7_early_24 : decode cX7_early 24 = .ok (.aload_n 0, 1) := dk_42 (dk_at dksX7_early_1 0 rfl rfl)
theorem dX7_early_25 : decode cX7_early 25 = .ok (.iload_n 1, 1) := dk_27 (dk_at dksX7_early_1 1 rfl rfl)
theorem dX7_early_26 : decode cX7_early 26 = .ok (.bipush 10, 2) := dk_16 10 (dk_at dksX7_early_1 2 rfl rfl)
theorem dX7_early_28 : decode cX7_early 28 = .ok (.invokevirtual 52, 3) := dk_182 0 52 (dk_at dksX7_early_1 4 rfl rfl)
theorem dX7_early_31 : decode cX7_early 31 = .ok (.ifCond .eq 5, 3) := dk_153 0 5 (dk_at dksX7_early_1 7 rfl rfl)
theorem dX7_early_34 : decode cX7_early 34 = .ok (.iconst 0, 1) := dk_3 (dk_at dksX7_early_1 10 rfl rfl)
theorem dX7_early_35 : decode cX7_early 35 = .ok (.ireturn, 1) := dk_172 (dk_at dksX7_early_1 11 rfl rfl)
theorem dX7_early_36 : decode cX7_early 36 = .ok (.aload_n 0, 1) := dk_42 (dk_at dksX7_early_1 12 rfl rfl)
theorem dX7_early_37 : decode cX7_early 37 = .ok (.iload_n 1, 1) := dk_27 (dk_at dksX7_early_1 13 rfl rfl)
theorem dX7_early_38 : decode cX7_early 38 = .ok (.invokevirtual 347, 3) := dk_182 1 91 (dk_at dksX7_early_1 14 rfl rfl)
theorem dX7_early_41 : decode cX7_early 41 = .ok (.istore_n 2, 1) := dk_61 (dk_at dksX7_early_1 17 rfl rfl)
theorem dX7_early_42 : decode cX7_early 42 = .ok (.aload_n 0, 1) := dk_42 (dk_at dksX7_early_1 18 rfl rfl)
theorem dX7_early_43 : decode cX7_early 43 = .ok (.iconst 1, 1) := dk_4 (dk_at dksX7_early_1 19 rfl rfl)
theorem dX7_early_44 : decode cX7_early 44 = .ok (.putfield 288, 3) := dk_181 1 32 (dk_at dksX7_early_1 20 rfl rfl)
theorem dX7_early_47 : decode cX7_early 47 = .ok (.aload_n 0, 1) := dk_42 (dk_at dksX7_early_1 23 rfl rfl)
theorem dX7_early_48 : decode cX7_early 48 = .ok (.iload_n 1, 1) := dk_27 (dk_at dksX7_early_2 0 rfl rfl)
theorem dX7_early_49 : decode cX7_early 49 = .ok (.invokevirtual 347, 3) := dk_182 1 91 (dk_at dksX7_early_2 1 rfl rfl)
theorem dX7_early_52 : decode cX7_early 52 = .ok (.istore_n 3, 1) := dk_62 (dk_at dksX7_early_2 4 rfl rfl)
theorem dX7_early_53 : decode cX7_early 53 = .ok (.aload_n 0, 1) := dk_42 (dk_at dksX7_early_2 5 rfl rfl)
theorem dX7_early_54 : decode cX7_early 54 = .ok (.iconst 0, 1) := dk_3 (dk_at dksX7_early_2 6 rfl rfl)
theorem dX7_early_55 : decode cX7_early 55 = .ok (.putfield 288, 3) := dk_181 1 32 (dk_at dksX7_early_2 7 rfl rfl)
theorem dX7_early_58 : decode cX7_early 58 = .ok (.iload_n 2, 1) := dk_28 (dk_at dksX7_early_2 10 rfl rfl)
theorem dX7_early_59 : decode cX7_early 59 = .ok (.iconst (-1), 1) := dk_2 (dk_at dksX7_early_2 11 rfl rfl)
theorem dX7_early_60 : decode cX7_early 60 = .ok (.if_icmp .eq 8, 3) := dk_159 0 8 (dk_at dksX7_early_2 12 rfl rfl)
theorem dX7_early_63 : decode cX7_early 63 = .ok (.iload_n 3, 1) := dk_29 (dk_at dksX7_early_2 15 rfl rfl)
theorem dX7_early_64 : decode cX7_early 64 = .ok (.iconst (-1), 1) := dk_2 (dk_at dksX7_early_2 16 rfl rfl)
theorem dX7_early_65 : decode cX7_early 65 = .ok (.if_icmp .ne 7, 3) := dk_160 0 7 (dk_at dksX7_early_2 17 rfl rfl)
theorem dX7_early_68 : decode cX7_early 68 = .ok (.iconst 0, 1) := dk_3 (dk_at dksX7_early_2 20 rfl rfl)
theorem dX7_early_69 : decode cX7_early 69 = .ok (.goto 6, 3) := dk_167 0 6 (dk_at dksX7_early_2 21 rfl rfl)
theorem dX7_early_72 : decode cX7_early 72 = .ok (.iload_n 2, 1) := dk_28 (dk_at dksX7_early_3 0 rfl rfl)
theorem dX7_early_73 : decode cX7_early 73 = .ok (.iload_n 3, 1) := dk_29 (dk_at dksX7_early_3 1 rfl rfl)
theorem dX7_early_74 : decode cX7_early 74 = .ok (.isub, 1) := dk_100 (dk_at dksX7_early_3 2 rfl rfl)
theorem dX7_early_75 : decode cX7_early 75 = .ok (.ireturn, 1) := dk_172 (dk_at dksX7_early_3 3 rfl rfl)
abbrev cX7_richest : ByteArray := prog_20_method_117_code
def yX7_richest : MethodName := ⟨RX7, "richest", "()I"⟩
def dkwX7_richest_1 : List UInt8 := [42, 28, 182, 1, 26, 42, 27, 182, 1, 26, 164, 0, 5, 28, 60, 132, 2, 1, 167, 255, 223, 27, 172]
abbrev dktX7_richest_1 : List UInt8 := dkwX7_richest_1 ++ []
def dkwX7_richest_0 : List UInt8 := [42, 3, 181, 0, 45, 2, 60, 3, 61, 28, 42, 180, 0, 7, 6, 46, 162, 0, 29, 27, 2, 159, 0, 16]
abbrev dktX7_richest_0 : List UInt8 := dkwX7_richest_0 ++ dktX7_richest_1
theorem dksX7_richest_0 : cX7_richest.data.toList.drop 0 = dktX7_richest_0 := by decide +kernel
theorem dksX7_richest_1 : cX7_richest.data.toList.drop 24 = dktX7_richest_1 := dk_seg dksX7_richest_0 24 rfl rfl
theorem dX7_richest_0 : decode cX7_richest 0 = .ok (.aload_n 0, 1) := dk_42 (dk_at dksX7_richest_0 0 rfl rfl)
theorem dX7_richest_1 : decode cX7_richest 1 = .ok (.iconst 0, 1) := dk_3 (dk_at dksX7_richest_0 1 rfl rfl)
theorem dX7_richest_2 : decode cX7_richest 2 = .ok (.putfield 45, 3) := dk_181 0 45 (dk_at dksX7_richest_0 2 rfl rfl)
theorem dX7_richest_5 : decode cX7_richest 5 = .ok (.iconst (-1), 1) := dk_2 (dk_at dksX7_richest_0 5 rfl rfl)
theorem dX7_richest_6 : decode cX7_richest 6 = .ok (.istore_n 1, 1) := dk_60 (dk_at dksX7_richest_0 6 rfl rfl)
theorem dX7_richest_7 : decode cX7_richest 7 = .ok (.iconst 0, 1) := dk_3 (dk_at dksX7_richest_0 7 rfl rfl)
theorem dX7_richest_8 : decode cX7_richest 8 = .ok (.istore_n 2, 1) := dk_61 (dk_at dksX7_richest_0 8 rfl rfl)
theorem dX7_richest_9 : decode cX7_richest 9 = .ok (.iload_n 2, 1) := dk_28 (dk_at dksX7_richest_0 9 rfl rfl)
theorem dX7_richest_10 : decode cX7_richest 10 = .ok (.aload_n 0, 1) := dk_42 (dk_at dksX7_richest_0 10 rfl rfl)
theorem dX7_richest_11 : decode cX7_richest 11 = .ok (.getfield 7, 3) := dk_180 0 7 (dk_at dksX7_richest_0 11 rfl rfl)
theorem dX7_richest_14 : decode cX7_richest 14 = .ok (.iconst 3, 1) := dk_6 (dk_at dksX7_richest_0 14 rfl rfl)
theorem dX7_richest_15 : decode cX7_richest 15 = .ok (.iaload, 1) := dk_46 (dk_at dksX7_richest_0 15 rfl rfl)
theorem dX7_richest_16 : decode cX7_richest 16 = .ok (.if_icmp .ge 29, 3) := dk_162 0 29 (dk_at dksX7_richest_0 16 rfl rfl)
theorem dX7_richest_19 : decode cX7_richest 19 = .ok (.iload_n 1, 1) := dk_27 (dk_at dksX7_richest_0 19 rfl rfl)
theorem dX7_richest_20 : decode cX7_richest 20 = .ok (.iconst (-1), 1) := dk_2 (dk_at dksX7_richest_0 20 rfl rfl)
theorem dX7_richest_21 : decode cX7_richest 21 = .ok (.if_icmp .eq 16, 3) := dk_159 0 16 (dk_at dksX7_richest_0 21 rfl rfl)
theorem dX7_richest_24 : decode cX7_richest 24 = .ok (.aload_n 0, 1) := dk_42 (dk_at dksX7_richest_1 0 rfl rfl)
theorem dX7_richest_25 : decode cX7_richest 25 = .ok (.iload_n 2, 1) := dk_28 (dk_at dksX7_richest_1 1 rfl rfl)
theorem dX7_richest_26 : decode cX7_richest 26 = .ok (.invokevirtual 282, 3) := dk_182 1 26 (dk_at dksX7_richest_1 2 rfl rfl)
theorem dX7_richest_29 : decode cX7_richest 29 = .ok (.aload_n 0, 1) := dk_42 (dk_at dksX7_richest_1 5 rfl rfl)
theorem dX7_richest_30 : decode cX7_richest 30 = .ok (.iload_n 1, 1) := dk_27 (dk_at dksX7_richest_1 6 rfl rfl)
theorem dX7_richest_31 : decode cX7_richest 31 = .ok (.invokevirtual 282, 3) := dk_182 1 26 (dk_at dksX7_richest_1 7 rfl rfl)
theorem dX7_richest_34 : decode cX7_richest 34 = .ok (.if_icmp .le 5, 3) := dk_164 0 5 (dk_at dksX7_richest_1 10 rfl rfl)
theorem dX7_richest_37 : decode cX7_richest 37 = .ok (.iload_n 2, 1) := dk_28 (dk_at dksX7_richest_1 13 rfl rfl)
theorem dX7_richest_38 : decode cX7_richest 38 = .ok (.istore_n 1, 1) := dk_60 (dk_at dksX7_richest_1 14 rfl rfl)
theorem dX7_richest_39 : decode cX7_richest 39 = .ok (.iinc 2 1, 3) := dk_132 2 1 (dk_at dksX7_richest_1 15 rfl rfl)
theorem dX7_richest_42 : decode cX7_richest 42 = .ok (.goto (-33), 3) := dk_167 255 223 (dk_at dksX7_richest_1 18 rfl rfl)
theorem dX7_richest_45 : decode cX7_richest 45 = .ok (.iload_n 1, 1) := dk_27 (dk_at dksX7_richest_1 21 rfl rfl)
theorem dX7_richest_46 : decode cX7_richest 46 = .ok (.ireturn, 1) := dk_172 (dk_at dksX7_richest_1 22 rfl rfl)
abbrev cX7_alike : ByteArray := prog_20_method_119_code
def yX7_alike : MethodName := ⟨RX7, "alike", "()I"⟩
def dkwX7_alike_2 : List UInt8 := [96, 60, 132, 3, 1, 167, 255, 226, 132, 2, 1, 167, 255, 206, 27, 172]
abbrev dktX7_alike_2 : List UInt8 := dkwX7_alike_2 ++ []
def dkwX7_alike_1 : List UInt8 := [42, 180, 0, 7, 8, 46, 162, 0, 26, 27, 42, 28, 29, 182, 1, 139, 153, 0, 7, 4, 167, 0, 4, 3]
abbrev dktX7_alike_1 : List UInt8 := dkwX7_alike_1 ++ dktX7_alike_2
def dkwX7_alike_0 : List UInt8 := [42, 3, 181, 0, 45, 3, 60, 3, 61, 28, 42, 180, 0, 7, 8, 46, 162, 0, 46, 28, 4, 96, 62, 29]
abbrev dktX7_alike_0 : List UInt8 := dkwX7_alike_0 ++ dktX7_alike_1
theorem dksX7_alike_0 : cX7_alike.data.toList.drop 0 = dktX7_alike_0 := by decide +kernel
theorem dksX7_alike_1 : cX7_alike.data.toList.drop 24 = dktX7_alike_1 := dk_seg dksX7_alike_0 24 rfl rfl
theorem dksX7_alike_2 : cX7_alike.data.toList.drop 48 = dktX7_alike_2 := dk_seg dksX7_alike_1 24 rfl rfl
theorem dX7_alike_0 : decode cX7_alike 0 = .ok (.aload_n 0, 1) := dk_42 (dk_at dksX7_alike_0 0 rfl rfl)
theorem dX7_alike_1 : decode cX7_alike 1 = .ok (.iconst 0, 1) := dk_3 (dk_at dksX7_alike_0 1 rfl rfl)
theorem dX7_alike_2 : decode cX7_alike 2 = .ok (.putfield 45, 3) := dk_181 0 45 (dk_at dksX7_alike_0 2 rfl rfl)
theorem dX7_alike_5 : decode cX7_alike 5 = .ok (.iconst 0, 1) := dk_3 (dk_at dksX7_alike_0 5 rfl rfl)
theorem dX7_alike_6 : decode cX7_alike 6 = .ok (.istore_n 1, 1) := dk_60 (dk_at dksX7_alike_0 6 rfl rfl)
theorem dX7_alike_7 : decode cX7_alike 7 = .ok (.iconst 0, 1) := dk_3 (dk_at dksX7_alike_0 7 rfl rfl)
theorem dX7_alike_8 : decode cX7_alike 8 = .ok (.istore_n 2, 1) := dk_61 (dk_at dksX7_alike_0 8 rfl rfl)
theorem dX7_alike_9 : decode cX7_alike 9 = .ok (.iload_n 2, 1) := dk_28 (dk_at dksX7_alike_0 9 rfl rfl)
theorem dX7_alike_10 : decode cX7_alike 10 = .ok (.aload_n 0, 1) := dk_42 (dk_at dksX7_alike_0 10 rfl rfl)
theorem dX7_alike_11 : decode cX7_alike 11 = .ok (.getfield 7, 3) := dk_180 0 7 (dk_at dksX7_alike_0 11 rfl rfl)
theorem dX7_alike_14 : decode cX7_alike 14 = .ok (.iconst 5, 1) := dk_8 (dk_at dksX7_alike_0 14 rfl rfl)
theorem dX7_alike_15 : decode cX7_alike 15 = .ok (.iaload, 1) := dk_46 (dk_at dksX7_alike_0 15 rfl rfl)
theorem dX7_alike_16 : decode cX7_alike 16 = .ok (.if_icmp .ge 46, 3) := dk_162 0 46 (dk_at dksX7_alike_0 16 rfl rfl)
theorem dX7_alike_19 : decode cX7_alike 19 = .ok (.iload_n 2, 1) := dk_28 (dk_at dksX7_alike_0 19 rfl rfl)
theorem dX7_alike_20 : decode cX7_alike 20 = .ok (.iconst 1, 1) := dk_4 (dk_at dksX7_alike_0 20 rfl rfl)
theorem dX7_alike_21 : decode cX7_alike 21 = .ok (.iadd, 1) := dk_96 (dk_at dksX7_alike_0 21 rfl rfl)
theorem dX7_alike_22 : decode cX7_alike 22 = .ok (.istore_n 3, 1) := dk_62 (dk_at dksX7_alike_0 22 rfl rfl)
theorem dX7_alike_23 : decode cX7_alike 23 = .ok (.iload_n 3, 1) := dk_29 (dk_at dksX7_alike_0 23 rfl rfl)
theorem dX7_alike_24 : decode cX7_alike 24 = .ok (.aload_n 0, 1) := dk_42 (dk_at dksX7_alike_1 0 rfl rfl)
theorem dX7_alike_25 : decode cX7_alike 25 = .ok (.getfield 7, 3) := dk_180 0 7 (dk_at dksX7_alike_1 1 rfl rfl)
theorem dX7_alike_28 : decode cX7_alike 28 = .ok (.iconst 5, 1) := dk_8 (dk_at dksX7_alike_1 4 rfl rfl)
theorem dX7_alike_29 : decode cX7_alike 29 = .ok (.iaload, 1) := dk_46 (dk_at dksX7_alike_1 5 rfl rfl)
theorem dX7_alike_30 : decode cX7_alike 30 = .ok (.if_icmp .ge 26, 3) := dk_162 0 26 (dk_at dksX7_alike_1 6 rfl rfl)
theorem dX7_alike_33 : decode cX7_alike 33 = .ok (.iload_n 1, 1) := dk_27 (dk_at dksX7_alike_1 9 rfl rfl)
theorem dX7_alike_34 : decode cX7_alike 34 = .ok (.aload_n 0, 1) := dk_42 (dk_at dksX7_alike_1 10 rfl rfl)
theorem dX7_alike_35 : decode cX7_alike 35 = .ok (.iload_n 2, 1) := dk_28 (dk_at dksX7_alike_1 11 rfl rfl)
theorem dX7_alike_36 : decode cX7_alike 36 = .ok (.iload_n 3, 1) := dk_29 (dk_at dksX7_alike_1 12 rfl rfl)
theorem dX7_alike_37 : decode cX7_alike 37 = .ok (.invokevirtual 395, 3) := dk_182 1 139 (dk_at dksX7_alike_1 13 rfl rfl)
theorem dX7_alike_40 : decode cX7_alike 40 = .ok (.ifCond .eq 7, 3) := dk_153 0 7 (dk_at dksX7_alike_1 16 rfl rfl)
theorem dX7_alike_43 : decode cX7_alike 43 = .ok (.iconst 1, 1) := dk_4 (dk_at dksX7_alike_1 19 rfl rfl)
theorem dX7_alike_44 : decode cX7_alike 44 = .ok (.goto 4, 3) := dk_167 0 4 (dk_at dksX7_alike_1 20 rfl rfl)
theorem dX7_alike_47 : decode cX7_alike 47 = .ok (.iconst 0, 1) := dk_3 (dk_at dksX7_alike_1 23 rfl rfl)
theorem dX7_alike_48 : decode cX7_alike 48 = .ok (.iadd, 1) := dk_96 (dk_at dksX7_alike_2 0 rfl rfl)
theorem dX7_alike_49 : decode cX7_alike 49 = .ok (.istore_n 1, 1) := dk_60 (dk_at dksX7_alike_2 1 rfl rfl)
theorem dX7_alike_50 : decode cX7_alike 50 = .ok (.iinc 3 1, 3) := dk_132 3 1 (dk_at dksX7_alike_2 2 rfl rfl)
theorem dX7_alike_53 : decode cX7_alike 53 = .ok (.goto (-30), 3) := dk_167 255 226 (dk_at dksX7_alike_2 5 rfl rfl)
theorem dX7_alike_56 : decode cX7_alike 56 = .ok (.iinc 2 1, 3) := dk_132 2 1 (dk_at dksX7_alike_2 8 rfl rfl)
theorem dX7_alike_59 : decode cX7_alike 59 = .ok (.goto (-50), 3) := dk_167 255 206 (dk_at dksX7_alike_2 11 rfl rfl)
theorem dX7_alike_62 : decode cX7_alike 62 = .ok (.iload_n 1, 1) := dk_27 (dk_at dksX7_alike_2 14 rfl rfl)
theorem dX7_alike_63 : decode cX7_alike 63 = .ok (.ireturn, 1) := dk_172 (dk_at dksX7_alike_2 15 rfl rfl)
abbrev cX7_areAlike : ByteArray := prog_20_method_118_code
def yX7_areAlike : MethodName := ⟨RX7, "areAlike", "(II)Z"⟩
def dkwX7_areAlike_1 : List UInt8 := [21, 4, 182, 0, 52, 160, 0, 7, 4, 167, 0, 4, 3, 62, 132, 4, 1, 167, 255, 220, 29, 172]
abbrev dktX7_areAlike_1 : List UInt8 := dkwX7_areAlike_1 ++ []
def dkwX7_areAlike_0 : List UInt8 := [4, 62, 3, 54, 4, 21, 4, 6, 163, 0, 36, 29, 153, 0, 24, 42, 27, 21, 4, 182, 0, 52, 42, 28]
abbrev dktX7_areAlike_0 : List UInt8 := dkwX7_areAlike_0 ++ dktX7_areAlike_1
theorem dksX7_areAlike_0 : cX7_areAlike.data.toList.drop 0 = dktX7_areAlike_0 := by decide +kernel
theorem dksX7_areAlike_1 : cX7_areAlike.data.toList.drop 24 = dktX7_areAlike_1 := dk_seg dksX7_areAlike_0 24 rfl rfl
theorem dX7_areAlike_0 : decode cX7_areAlike 0 = .ok (.iconst 1, 1) := dk_4 (dk_at dksX7_areAlike_0 0 rfl rfl)
theorem dX7_areAlike_1 : decode cX7_areAlike 1 = .ok (.istore_n 3, 1) := dk_62 (dk_at dksX7_areAlike_0 1 rfl rfl)
theorem dX7_areAlike_2 : decode cX7_areAlike 2 = .ok (.iconst 0, 1) := dk_3 (dk_at dksX7_areAlike_0 2 rfl rfl)
theorem dX7_areAlike_3 : decode cX7_areAlike 3 = .ok (.istore 4, 2) := dk_54 4 (dk_at dksX7_areAlike_0 3 rfl rfl)
theorem dX7_areAlike_5 : decode cX7_areAlike 5 = .ok (.iload 4, 2) := dk_21 4 (dk_at dksX7_areAlike_0 5 rfl rfl)
theorem dX7_areAlike_7 : decode cX7_areAlike 7 = .ok (.iconst 3, 1) := dk_6 (dk_at dksX7_areAlike_0 7 rfl rfl)
theorem dX7_areAlike_8 : decode cX7_areAlike 8 = .ok (.if_icmp .gt 36, 3) := dk_163 0 36 (dk_at dksX7_areAlike_0 8 rfl rfl)
theorem dX7_areAlike_11 : decode cX7_areAlike 11 = .ok (.iload_n 3, 1) := dk_29 (dk_at dksX7_areAlike_0 11 rfl rfl)
theorem dX7_areAlike_12 : decode cX7_areAlike 12 = .ok (.ifCond .eq 24, 3) := dk_153 0 24 (dk_at dksX7_areAlike_0 12 rfl rfl)
theorem dX7_areAlike_15 : decode cX7_areAlike 15 = .ok (.aload_n 0, 1) := dk_42 (dk_at dksX7_areAlike_0 15 rfl rfl)
theorem dX7_areAlike_16 : decode cX7_areAlike 16 = .ok (.iload_n 1, 1) := dk_27 (dk_at dksX7_areAlike_0 16 rfl rfl)
theorem dX7_areAlike_17 : decode cX7_areAlike 17 = .ok (.iload 4, 2) := dk_21 4 (dk_at dksX7_areAlike_0 17 rfl rfl)
theorem dX7_areAlike_19 : decode cX7_areAlike 19 = .ok (.invokevirtual 52, 3) := dk_182 0 52 (dk_at dksX7_areAlike_0 19 rfl rfl)
theorem dX7_areAlike_22 : decode cX7_areAlike 22 = .ok (.aload_n 0, 1) := dk_42 (dk_at dksX7_areAlike_0 22 rfl rfl)
theorem dX7_areAlike_23 : decode cX7_areAlike 23 = .ok (.iload_n 2, 1) := dk_28 (dk_at dksX7_areAlike_0 23 rfl rfl)
theorem dX7_areAlike_24 : decode cX7_areAlike 24 = .ok (.iload 4, 2) := dk_21 4 (dk_at dksX7_areAlike_1 0 rfl rfl)
theorem dX7_areAlike_26 : decode cX7_areAlike 26 = .ok (.invokevirtual 52, 3) := dk_182 0 52 (dk_at dksX7_areAlike_1 2 rfl rfl)
theorem dX7_areAlike_29 : decode cX7_areAlike 29 = .ok (.if_icmp .ne 7, 3) := dk_160 0 7 (dk_at dksX7_areAlike_1 5 rfl rfl)
theorem dX7_areAlike_32 : decode cX7_areAlike 32 = .ok (.iconst 1, 1) := dk_4 (dk_at dksX7_areAlike_1 8 rfl rfl)
theorem dX7_areAlike_33 : decode cX7_areAlike 33 = .ok (.goto 4, 3) := dk_167 0 4 (dk_at dksX7_areAlike_1 9 rfl rfl)
theorem dX7_areAlike_36 : decode cX7_areAlike 36 = .ok (.iconst 0, 1) := dk_3 (dk_at dksX7_areAlike_1 12 rfl rfl)
theorem dX7_areAlike_37 : decode cX7_areAlike 37 = .ok (.istore_n 3, 1) := dk_62 (dk_at dksX7_areAlike_1 13 rfl rfl)
theorem dX7_areAlike_38 : decode cX7_areAlike 38 = .ok (.iinc 4 1, 3) := dk_132 4 1 (dk_at dksX7_areAlike_1 14 rfl rfl)
theorem dX7_areAlike_41 : decode cX7_areAlike 41 = .ok (.goto (-36), 3) := dk_167 255 220 (dk_at dksX7_areAlike_1 17 rfl rfl)
theorem dX7_areAlike_44 : decode cX7_areAlike 44 = .ok (.iload_n 3, 1) := dk_29 (dk_at dksX7_areAlike_1 20 rfl rfl)
theorem dX7_areAlike_45 : decode cX7_areAlike 45 = .ok (.ireturn, 1) := dk_172 (dk_at dksX7_areAlike_1 21 rfl rfl)
abbrev cX7_broken : ByteArray := prog_20_method_120_code
def yX7_broken : MethodName := ⟨RX7, "broken", "()I"⟩
def dkwX7_broken_0 : List UInt8 := [42, 3, 181, 0, 45, 42, 182, 1, 94, 172]
abbrev dktX7_broken_0 : List UInt8 := dkwX7_broken_0 ++ []
theorem dksX7_broken_0 : cX7_broken.data.toList.drop 0 = dktX7_broken_0 := by decide +kernel
theorem dX7_broken_0 : decode cX7_broken 0 = .ok (.aload_n 0, 1) := dk_42 (dk_at dksX7_broken_0 0 rfl rfl)
theorem dX7_broken_1 : decode cX7_broken 1 = .ok (.iconst 0, 1) := dk_3 (dk_at dksX7_broken_0 1 rfl rfl)
theorem dX7_broken_2 : decode cX7_broken 2 = .ok (.putfield 45, 3) := dk_181 0 45 (dk_at dksX7_broken_0 2 rfl rfl)
theorem dX7_broken_5 : decode cX7_broken 5 = .ok (.aload_n 0, 1) := dk_42 (dk_at dksX7_broken_0 5 rfl rfl)
theorem dX7_broken_6 : decode cX7_broken 6 = .ok (.invokevirtual 350, 3) := dk_182 1 94 (dk_at dksX7_broken_0 6 rfl rfl)
theorem dX7_broken_9 : decode cX7_broken 9 = .ok (.ireturn, 1) := dk_172 (dk_at dksX7_broken_0 9 rfl rfl)
abbrev cX7_ahead : ByteArray := prog_20_method_121_code
def yX7_ahead : MethodName := ⟨RX7, "ahead", "(III)I"⟩
def dkwX7_ahead_4 : List UInt8 := [182, 0, 209, 21, 5, 172]
abbrev dktX7_ahead_4 : List UInt8 := dkwX7_ahead_4 ++ []
def dkwX7_ahead_3 : List UInt8 := [16, 8, 167, 0, 15, 29, 4, 160, 0, 8, 16, 10, 167, 0, 5, 16, 11, 182, 0, 52, 54, 5, 42]
abbrev dktX7_ahead_3 : List UInt8 := dkwX7_ahead_3 ++ dktX7_ahead_4
def dkwX7_ahead_2 : List UInt8 := [158, 0, 5, 3, 172, 42, 182, 0, 199, 42, 28, 3, 182, 1, 78, 54, 4, 42, 27, 29, 154, 0, 8]
abbrev dktX7_ahead_2 : List UInt8 := dkwX7_ahead_2 ++ dktX7_ahead_3
def dkwX7_ahead_1 : List UInt8 := [167, 0, 17, 29, 3, 5, 184, 0, 48, 154, 0, 7, 6, 167, 0, 4, 3, 181, 0, 45, 42, 180, 0, 45]
abbrev dktX7_ahead_1 : List UInt8 := dkwX7_ahead_1 ++ dktX7_ahead_2
def dkwX7_ahead_0 : List UInt8 := [42, 42, 27, 182, 1, 69, 154, 0, 7, 4, 167, 0, 31, 28, 3, 16, 80, 184, 0, 48, 154, 0, 7, 5]
abbrev dktX7_ahead_0 : List UInt8 := dkwX7_ahead_0 ++ dktX7_ahead_1
theorem dksX7_ahead_0 : cX7_ahead.data.toList.drop 0 = dktX7_ahead_0 := by decide +kernel
theorem dksX7_ahead_1 : cX7_ahead.data.toList.drop 24 = dktX7_ahead_1 := dk_seg dksX7_ahead_0 24 rfl rfl
theorem dksX7_ahead_2 : cX7_ahead.data.toList.drop 48 = dktX7_ahead_2 := dk_seg dksX7_ahead_1 24 rfl rfl
theorem dksX7_ahead_3 : cX7_ahead.data.toList.drop 71 = dktX7_ahead_3 := dk_seg dksX7_ahead_2 23 rfl rfl
theorem dksX7_ahead_4 : cX7_ahead.data.toList.drop 94 = dktX7_ahead_4 := dk_seg dksX7_ahead_3 23 rfl rfl
theorem dX7_ahead_0 : decode cX7_ahead 0 = .ok (.aload_n 0, 1) := dk_42 (dk_at dksX7_ahead_0 0 rfl rfl)
theorem dX7_ahead_1 : decode cX7_ahead 1 = .ok (.aload_n 0, 1) := dk_42 (dk_at dksX7_ahead_0 1 rfl rfl)
theorem dX7_ahead_2 : decode cX7_ahead 2 = .ok (.iload_n 1, 1) := dk_27 (dk_at dksX7_ahead_0 2 rfl rfl)
theorem dX7_ahead_3 : decode cX7_ahead 3 = .ok (.invokevirtual 325, 3) := dk_182 1 69 (dk_at dksX7_ahead_0 3 rfl rfl)
theorem dX7_ahead_6 : decode cX7_ahead 6 = .ok (.ifCond .ne 7, 3) := dk_154 0 7 (dk_at dksX7_ahead_0 6 rfl rfl)
theorem dX7_ahead_9 : decode cX7_ahead 9 = .ok (.iconst 1, 1) := dk_4 (dk_at dksX7_ahead_0 9 rfl rfl)
theorem dX7_ahead_10 : decode cX7_ahead 10 = .ok (.goto 31, 3) := dk_167 0 31 (dk_at dksX7_ahead_0 10 rfl rfl)
theorem dX7_ahead_13 : decode cX7_ahead 13 = .ok (.iload_n 2, 1) := dk_28 (dk_at dksX7_ahead_0 13 rfl rfl)
theorem dX7_ahead_14 : decode cX7_ahead 14 = .ok (.iconst 0, 1) := dk_3 (dk_at dksX7_ahead_0 14 rfl rfl)
theorem dX7_ahead_15 : decode cX7_ahead 15 = .ok (.bipush 80, 2) := dk_16 80 (dk_at dksX7_ahead_0 15 rfl rfl)
theorem dX7_ahead_17 : decode cX7_ahead 17 = .ok (.invokestatic 48, 3) := dk_184 0 48 (dk_at dksX7_ahead_0 17 rfl rfl)
theorem dX7_ahead_20 : decode cX7_ahead 20 = .ok (.ifCond .ne 7, 3) := dk_154 0 7 (dk_at dksX7_ahead_0 20 rfl rfl)
theorem dX7_ahead_23 : decode cX7_ahead 23 = .ok (.iconst 2, 1) := dk_5 (dk_at dksX7_ahead_0 23 rfl rfl)
theorem dX7_ahead_24 : decode cX7_ahead 24 = .ok (.goto 17, 3) := dk_167 0 17 (dk_at dksX7_ahead_1 0 rfl rfl)
theorem dX7_ahead_27 : decode cX7_ahead 27 = .ok (.iload_n 3, 1) := dk_29 (dk_at dksX7_ahead_1 3 rfl rfl)
theorem dX7_ahead_28 : decode cX7_ahead 28 = .ok (.iconst 0, 1) := dk_3 (dk_at dksX7_ahead_1 4 rfl rfl)
theorem dX7_ahead_29 : decode cX7_ahead 29 = .ok (.iconst 2, 1) := dk_5 (dk_at dksX7_ahead_1 5 rfl rfl)
theorem dX7_ahead_30 : decode cX7_ahead 30 = .ok (.invokestatic 48, 3) := dk_184 0 48 (dk_at dksX7_ahead_1 6 rfl rfl)
theorem dX7_ahead_33 : decode cX7_ahead 33 = .ok (.ifCond .ne 7, 3) := dk_154 0 7 (dk_at dksX7_ahead_1 9 rfl rfl)
theorem dX7_ahead_36 : decode cX7_ahead 36 = .ok (.iconst 3, 1) := dk_6 (dk_at dksX7_ahead_1 12 rfl rfl)
theorem dX7_ahead_37 : decode cX7_ahead 37 = .ok (.goto 4, 3) := dk_167 0 4 (dk_at dksX7_ahead_1 13 rfl rfl)
theorem dX7_ahead_40 : decode cX7_ahead 40 = .ok (.iconst 0, 1) := dk_3 (dk_at dksX7_ahead_1 16 rfl rfl)
theorem dX7_ahead_41 : decode cX7_ahead 41 = .ok (.putfield 45, 3) := dk_181 0 45 (dk_at dksX7_ahead_1 17 rfl rfl)
theorem dX7_ahead_44 : decode cX7_ahead 44 = .ok (.aload_n 0, 1) := dk_42 (dk_at dksX7_ahead_1 20 rfl rfl)
theorem dX7_ahead_45 : decode cX7_ahead 45 = .ok (.getfield 45, 3) := dk_180 0 45 (dk_at dksX7_ahead_1 21 rfl rfl)
theorem dX7_ahead_48 : decode cX7_ahead 48 = .ok (.ifCond .le 5, 3) := dk_158 0 5 (dk_at dksX7_ahead_2 0 rfl rfl)
theorem dX7_ahead_51 : decode cX7_ahead 51 = .ok (.iconst 0, 1) := dk_3 (dk_at dksX7_ahead_2 3 rfl rfl)
theorem dX7_ahead_52 : decode cX7_ahead 52 = .ok (.ireturn, 1) := dk_172 (dk_at dksX7_ahead_2 4 rfl rfl)
theorem dX7_ahead_53 : decode cX7_ahead 53 = .ok (.aload_n 0, 1) := dk_42 (dk_at dksX7_ahead_2 5 rfl rfl)
theorem dX7_ahead_54 : decode cX7_ahead 54 = .ok (.invokevirtual 199, 3) := dk_182 0 199 (dk_at dksX7_ahead_2 6 rfl rfl)
theorem dX7_ahead_57 : decode cX7_ahead 57 = .ok (.aload_n 0, 1) := dk_42 (dk_at dksX7_ahead_2 9 rfl rfl)
theorem dX7_ahead_58 : decode cX7_ahead 58 = .ok (.iload_n 2, 1) := dk_28 (dk_at dksX7_ahead_2 10 rfl rfl)
theorem dX7_ahead_59 : decode cX7_ahead 59 = .ok (.iconst 0, 1) := dk_3 (dk_at dksX7_ahead_2 11 rfl rfl)
theorem dX7_ahead_60 : decode cX7_ahead 60 = .ok (.invokevirtual 334, 3) := dk_182 1 78 (dk_at dksX7_ahead_2 12 rfl rfl)
theorem dX7_ahead_63 : decode cX7_ahead 63 = .ok (.istore 4, 2) := dk_54 4 (dk_at dksX7_ahead_2 15 rfl rfl)
theorem dX7_ahead_65 : decode cX7_ahead 65 = .ok (.aload_n 0, 1) := dk_42 (dk_at dksX7_ahead_2 17 rfl rfl)
theorem dX7_ahead_66 : decode cX7_ahead 66 = .ok (.iload_n 1, 1) := dk_27 (dk_at dksX7_ahead_2 18 rfl rfl)
theorem dX7_ahead_67 : decode cX7_ahead 67 = .ok (.iload_n 3, 1) := dk_29 (dk_at dksX7_ahead_2 19 rfl rfl)
theorem dX7_ahead_68 : decode cX7_ahead 68 = .ok (.ifCond .ne 8, 3) := dk_154 0 8 (dk_at dksX7_ahead_2 20 rfl rfl)
theorem dX7_ahead_71 : decode cX7_ahead 71 = .ok (.bipush 8, 2) := dk_16 8 (dk_at dksX7_ahead_3 0 rfl rfl)
theorem dX7_ahead_73 : decode cX7_ahead 73 = .ok (.goto 15, 3) := dk_167 0 15 (dk_at dksX7_ahead_3 2 rfl rfl)
theorem dX7_ahead_76 : decode cX7_ahead 76 = .ok (.iload_n 3, 1) := dk_29 (dk_at dksX7_ahead_3 5 rfl rfl)
theorem dX7_ahead_77 : decode cX7_ahead 77 = .ok (.iconst 1, 1) := dk_4 (dk_at dksX7_ahead_3 6 rfl rfl)
theorem dX7_ahead_78 : decode cX7_ahead 78 = .ok (.if_icmp .ne 8, 3) := dk_160 0 8 (dk_at dksX7_ahead_3 7 rfl rfl)
theorem dX7_ahead_81 : decode cX7_ahead 81 = .ok (.bipush 10, 2) := dk_16 10 (dk_at dksX7_ahead_3 10 rfl rfl)
theorem dX7_ahead_83 : decode cX7_ahead 83 = .ok (.goto 5, 3) := dk_167 0 5 (dk_at dksX7_ahead_3 12 rfl rfl)
theorem dX7_ahead_86 : decode cX7_ahead 86 = .ok (.bipush 11, 2) := dk_16 11 (dk_at dksX7_ahead_3 15 rfl rfl)
theorem dX7_ahead_88 : decode cX7_ahead 88 = .ok (.invokevirtual 52, 3) := dk_182 0 52 (dk_at dksX7_ahead_3 17 rfl rfl)
theorem dX7_ahead_91 : decode cX7_ahead 91 = .ok (.istore 5, 2) := dk_54 5 (dk_at dksX7_ahead_3 20 rfl rfl)
theorem dX7_ahead_93 : decode cX7_ahead 93 = .ok (.aload_n 0, 1) := dk_42 (dk_at dksX7_ahead_3 22 rfl rfl)
theorem dX7_ahead_94 : decode cX7_ahead 94 = .ok (.invokevirtual 209, 3) := dk_182 0 209 (dk_at dksX7_ahead_4 0 rfl rfl)
theorem dX7_ahead_97 : decode cX7_ahead 97 = .ok (.iload 5, 2) := dk_21 5 (dk_at dksX7_ahead_4 3 rfl rfl)
theorem dX7_ahead_99 : decode cX7_ahead 99 = .ok (.ireturn, 1) := dk_172 (dk_at dksX7_ahead_4 5 rfl rfl)
abbrev cX7_trial : ByteArray := prog_20_method_123_code
def yX7_trial : MethodName := ⟨RX7, "trial", "(IZ)I"⟩
def dkwX7_trial_2 : List UInt8 := [167, 0, 8, 42, 4, 182, 0, 60, 54, 4, 42, 182, 0, 209, 21, 4, 172]
abbrev dktX7_trial_2 : List UInt8 := dkwX7_trial_2 ++ []
def dkwX7_trial_1 : List UInt8 := [158, 0, 5, 3, 172, 42, 182, 0, 199, 42, 27, 4, 182, 1, 78, 62, 28, 153, 0, 10, 42, 182, 1, 94]
abbrev dktX7_trial_1 : List UInt8 := dkwX7_trial_1 ++ dktX7_trial_2
def dkwX7_trial_0 : List UInt8 := [42, 27, 3, 16, 80, 184, 0, 48, 154, 0, 7, 4, 167, 0, 4, 3, 181, 0, 45, 42, 180, 0, 45]
abbrev dktX7_trial_0 : List UInt8 := dkwX7_trial_0 ++ dktX7_trial_1
theorem dksX7_trial_0 : cX7_trial.data.toList.drop 0 = dktX7_trial_0 := by decide +kernel
theorem dksX7_trial_1 : cX7_trial.data.toList.drop 23 = dktX7_trial_1 := dk_seg dksX7_trial_0 23 rfl rfl
theorem dksX7_trial_2 : cX7_trial.data.toList.drop 47 = dktX7_trial_2 := dk_seg dksX7_trial_1 24 rfl rfl
theorem dX7_trial_0 : decode cX7_trial 0 = .ok (.aload_n 0, 1) := dk_42 (dk_at dksX7_trial_0 0 rfl rfl)
theorem dX7_trial_1 : decode cX7_trial 1 = .ok (.iload_n 1, 1) := dk_27 (dk_at dksX7_trial_0 1 rfl rfl)
theorem dX7_trial_2 : decode cX7_trial 2 = .ok (.iconst 0, 1) := dk_3 (dk_at dksX7_trial_0 2 rfl rfl)
theorem dX7_trial_3 : decode cX7_trial 3 = .ok (.bipush 80, 2) := dk_16 80 (dk_at dksX7_trial_0 3 rfl rfl)
theorem dX7_trial_5 : decode cX7_trial 5 = .ok (.invokestatic 48, 3) := dk_184 0 48 (dk_at dksX7_trial_0 5 rfl rfl)
theorem dX7_trial_8 : decode cX7_trial 8 = .ok (.ifCond .ne 7, 3) := dk_154 0 7 (dk_at dksX7_trial_0 8 rfl rfl)
theorem dX7_trial_11 : decode cX7_trial 11 = .ok (.iconst 1, 1) := dk_4 (dk_at dksX7_trial_0 11 rfl rfl)
theorem dX7_trial_12 : decode cX7_trial 12 = .ok (.goto 4, 3) := dk_167 0 4 (dk_at dksX7_trial_0 12 rfl rfl)
theorem dX7_trial_15 : decode cX7_trial 15 = .ok (.iconst 0, 1) := dk_3 (dk_at dksX7_trial_0 15 rfl rfl)
theorem dX7_trial_16 : decode cX7_trial 16 = .ok (.putfield 45, 3) := dk_181 0 45 (dk_at dksX7_trial_0 16 rfl rfl)
theorem dX7_trial_19 : decode cX7_trial 19 = .ok (.aload_n 0, 1) := dk_42 (dk_at dksX7_trial_0 19 rfl rfl)
theorem dX7_trial_20 : decode cX7_trial 20 = .ok (.getfield 45, 3) := dk_180 0 45 (dk_at dksX7_trial_0 20 rfl rfl)
theorem dX7_trial_23 : decode cX7_trial 23 = .ok (.ifCond .le 5, 3) := dk_158 0 5 (dk_at dksX7_trial_1 0 rfl rfl)
theorem dX7_trial_26 : decode cX7_trial 26 = .ok (.iconst 0, 1) := dk_3 (dk_at dksX7_trial_1 3 rfl rfl)
theorem dX7_trial_27 : decode cX7_trial 27 = .ok (.ireturn, 1) := dk_172 (dk_at dksX7_trial_1 4 rfl rfl)
theorem dX7_trial_28 : decode cX7_trial 28 = .ok (.aload_n 0, 1) := dk_42 (dk_at dksX7_trial_1 5 rfl rfl)
theorem dX7_trial_29 : decode cX7_trial 29 = .ok (.invokevirtual 199, 3) := dk_182 0 199 (dk_at dksX7_trial_1 6 rfl rfl)
theorem dX7_trial_32 : decode cX7_trial 32 = .ok (.aload_n 0, 1) := dk_42 (dk_at dksX7_trial_1 9 rfl rfl)
theorem dX7_trial_33 : decode cX7_trial 33 = .ok (.iload_n 1, 1) := dk_27 (dk_at dksX7_trial_1 10 rfl rfl)
theorem dX7_trial_34 : decode cX7_trial 34 = .ok (.iconst 1, 1) := dk_4 (dk_at dksX7_trial_1 11 rfl rfl)
theorem dX7_trial_35 : decode cX7_trial 35 = .ok (.invokevirtual 334, 3) := dk_182 1 78 (dk_at dksX7_trial_1 12 rfl rfl)
theorem dX7_trial_38 : decode cX7_trial 38 = .ok (.istore_n 3, 1) := dk_62 (dk_at dksX7_trial_1 15 rfl rfl)
theorem dX7_trial_39 : decode cX7_trial 39 = .ok (.iload_n 2, 1) := dk_28 (dk_at dksX7_trial_1 16 rfl rfl)
theorem dX7_trial_40 : decode cX7_trial 40 = .ok (.ifCond .eq 10, 3) := dk_153 0 10 (dk_at dksX7_trial_1 17 rfl rfl)
theorem dX7_trial_43 : decode cX7_trial 43 = .ok (.aload_n 0, 1) := dk_42 (dk_at dksX7_trial_1 20 rfl rfl)
theorem dX7_trial_44 : decode cX7_trial 44 = .ok (.invokevirtual 350, 3) := dk_182 1 94 (dk_at dksX7_trial_1 21 rfl rfl)
theorem dX7_trial_47 : decode cX7_trial 47 = .ok (.goto 8, 3) := dk_167 0 8 (dk_at dksX7_trial_2 0 rfl rfl)
theorem dX7_trial_50 : decode cX7_trial 50 = .ok (.aload_n 0, 1) := dk_42 (dk_at dksX7_trial_2 3 rfl rfl)
theorem dX7_trial_51 : decode cX7_trial 51 = .ok (.iconst 1, 1) := dk_4 (dk_at dksX7_trial_2 4 rfl rfl)
theorem dX7_trial_52 : decode cX7_trial 52 = .ok (.invokevirtual 60, 3) := dk_182 0 60 (dk_at dksX7_trial_2 5 rfl rfl)
theorem dX7_trial_55 : decode cX7_trial 55 = .ok (.istore 4, 2) := dk_54 4 (dk_at dksX7_trial_2 8 rfl rfl)
theorem dX7_trial_57 : decode cX7_trial 57 = .ok (.aload_n 0, 1) := dk_42 (dk_at dksX7_trial_2 10 rfl rfl)
theorem dX7_trial_58 : decode cX7_trial 58 = .ok (.invokevirtual 209, 3) := dk_182 0 209 (dk_at dksX7_trial_2 11 rfl rfl)
theorem dX7_trial_61 : decode cX7_trial 61 = .ok (.iload 4, 2) := dk_21 4 (dk_at dksX7_trial_2 14 rfl rfl)
theorem dX7_trial_63 : decode cX7_trial 63 = .ok (.ireturn, 1) := dk_172 (dk_at dksX7_trial_2 16 rfl rfl)
abbrev cX7_span : ByteArray := prog_20_method_124_code
def yX7_span : MethodName := ⟨RX7, "span", "(IZ)I"⟩
def dkwX7_span_4 : List UInt8 := [184, 1, 13, 167, 0, 9, 29, 21, 6, 184, 1, 20, 62, 132, 4, 1, 167, 255, 186, 29, 172]
abbrev dktX7_span_4 : List UInt8 := dkwX7_span_4 ++ []
def dkwX7_span_3 : List UInt8 := [54, 6, 42, 182, 0, 209, 29, 2, 160, 0, 8, 21, 6, 167, 0, 22, 28, 153, 0, 12, 29, 21, 6]
abbrev dktX7_span_3 : List UInt8 := dkwX7_span_3 ++ dktX7_span_4
def dkwX7_span_2 : List UInt8 := [180, 0, 7, 16, 10, 21, 4, 79, 42, 27, 4, 182, 1, 78, 54, 5, 42, 182, 1, 142, 184, 1, 113]
abbrev dktX7_span_2 : List UInt8 := dkwX7_span_2 ++ dktX7_span_3
def dkwX7_span_1 : List UInt8 := [158, 0, 5, 3, 172, 42, 182, 0, 199, 2, 62, 4, 54, 4, 21, 4, 16, 6, 163, 0, 69, 42]
abbrev dktX7_span_1 : List UInt8 := dkwX7_span_1 ++ dktX7_span_2
def dkwX7_span_0 : List UInt8 := [42, 27, 3, 16, 80, 184, 0, 48, 154, 0, 7, 4, 167, 0, 4, 3, 181, 0, 45, 42, 180, 0, 45]
abbrev dktX7_span_0 : List UInt8 := dkwX7_span_0 ++ dktX7_span_1
theorem dksX7_span_0 : cX7_span.data.toList.drop 0 = dktX7_span_0 := by decide +kernel
theorem dksX7_span_1 : cX7_span.data.toList.drop 23 = dktX7_span_1 := dk_seg dksX7_span_0 23 rfl rfl
theorem dksX7_span_2 : cX7_span.data.toList.drop 45 = dktX7_span_2 := dk_seg dksX7_span_1 22 rfl rfl
theorem dksX7_span_3 : cX7_span.data.toList.drop 68 = dktX7_span_3 := dk_seg dksX7_span_2 23 rfl rfl
theorem dksX7_span_4 : cX7_span.data.toList.drop 91 = dktX7_span_4 := dk_seg dksX7_span_3 23 rfl rfl
theorem dX7_span_0 : decode cX7_span 0 = .ok (.aload_n 0, 1) := dk_42 (dk_at dksX7_span_0 0 rfl rfl)
theorem dX7_span_1 : decode cX7_span 1 = .ok (.iload_n 1, 1) := dk_27 (dk_at dksX7_span_0 1 rfl rfl)
theorem dX7_span_2 : decode cX7_span 2 = .ok (.iconst 0, 1) := dk_3 (dk_at dksX7_span_0 2 rfl rfl)
theorem dX7_span_3 : decode cX7_span 3 = .ok (.bipush 80, 2) := dk_16 80 (dk_at dksX7_span_0 3 rfl rfl)
theorem dX7_span_5 : decode cX7_span 5 = .ok (.invokestatic 48, 3) := dk_184 0 48 (dk_at dksX7_span_0 5 rfl rfl)
theorem dX7_span_8 : decode cX7_span 8 = .ok (.ifCond .ne 7, 3) := dk_154 0 7 (dk_at dksX7_span_0 8 rfl rfl)
theorem dX7_span_11 : decode cX7_span 11 = .ok (.iconst 1, 1) := dk_4 (dk_at dksX7_span_0 11 rfl rfl)
theorem dX7_span_12 : decode cX7_span 12 = .ok (.goto 4, 3) := dk_167 0 4 (dk_at dksX7_span_0 12 rfl rfl)
theorem dX7_span_15 : decode cX7_span 15 = .ok (.iconst 0, 1) := dk_3 (dk_at dksX7_span_0 15 rfl rfl)
theorem dX7_span_16 : decode cX7_span 16 = .ok (.putfield 45, 3) := dk_181 0 45 (dk_at dksX7_span_0 16 rfl rfl)
theorem dX7_span_19 : decode cX7_span 19 = .ok (.aload_n 0, 1) := dk_42 (dk_at dksX7_span_0 19 rfl rfl)
theorem dX7_span_20 : decode cX7_span 20 = .ok (.getfield 45, 3) := dk_180 0 45 (dk_at dksX7_span_0 20 rfl rfl)
theorem dX7_span_23 : decode cX7_span 23 = .ok (.ifCond .le 5, 3) := dk_158 0 5 (dk_at dksX7_span_1 0 rfl rfl)
theorem dX7_span_26 : decode cX7_span 26 = .ok (.iconst 0, 1) := dk_3 (dk_at dksX7_span_1 3 rfl rfl)
theorem dX7_span_27 : decode cX7_span 27 = .ok (.ireturn, 1) := dk_172 (dk_at dksX7_span_1 4 rfl rfl)
theorem dX7_span_28 : decode cX7_span 28 = .ok (.aload_n 0, 1) := dk_42 (dk_at dksX7_span_1 5 rfl rfl)
theorem dX7_span_29 : decode cX7_span 29 = .ok (.invokevirtual 199, 3) := dk_182 0 199 (dk_at dksX7_span_1 6 rfl rfl)
theorem dX7_span_32 : decode cX7_span 32 = .ok (.iconst (-1), 1) := dk_2 (dk_at dksX7_span_1 9 rfl rfl)
theorem dX7_span_33 : decode cX7_span 33 = .ok (.istore_n 3, 1) := dk_62 (dk_at dksX7_span_1 10 rfl rfl)
theorem dX7_span_34 : decode cX7_span 34 = .ok (.iconst 1, 1) := dk_4 (dk_at dksX7_span_1 11 rfl rfl)
theorem dX7_span_35 : decode cX7_span 35 = .ok (.istore 4, 2) := dk_54 4 (dk_at dksX7_span_1 12 rfl rfl)
theorem dX7_span_37 : decode cX7_span 37 = .ok (.iload 4, 2) := dk_21 4 (dk_at dksX7_span_1 14 rfl rfl)
theorem dX7_span_39 : decode cX7_span 39 = .ok (.bipush 6, 2) := dk_16 6 (dk_at dksX7_span_1 16 rfl rfl)
theorem dX7_span_41 : decode cX7_span 41 = .ok (.if_icmp .gt 69, 3) := dk_163 0 69 (dk_at dksX7_span_1 18 rfl rfl)
theorem dX7_span_44 : decode cX7_span 44 = .ok (.aload_n 0, 1) := dk_42 (dk_at dksX7_span_1 21 rfl rfl)
theorem dX7_span_45 : decode cX7_span 45 = .ok (.getfield 7, 3) := dk_180 0 7 (dk_at dksX7_span_2 0 rfl rfl)
theorem dX7_span_48 : decode cX7_span 48 = .ok (.bipush 10, 2) := dk_16 10 (dk_at dksX7_span_2 3 rfl rfl)
theorem dX7_span_50 : decode cX7_span 50 = .ok (.iload 4, 2) := dk_21 4 (dk_at dksX7_span_2 5 rfl rfl)
theorem dX7_span_52 : decode cX7_span 52 = .ok (.iastore, 1) := dk_79 (dk_at dksX7_span_2 7 rfl rfl)
theorem dX7_span_53 : decode cX7_span 53 = .ok (.aload_n 0, 1) := dk_42 (dk_at dksX7_span_2 8 rfl rfl)
theorem dX7_span_54 : decode cX7_span 54 = .ok (.iload_n 1, 1) := dk_27 (dk_at dksX7_span_2 9 rfl rfl)
theorem dX7_span_55 : decode cX7_span 55 = .ok (.iconst 1, 1) := dk_4 (dk_at dksX7_span_2 10 rfl rfl)
theorem dX7_span_56 : decode cX7_span 56 = .ok (.invokevirtual 334, 3) := dk_182 1 78 (dk_at dksX7_span_2 11 rfl rfl)
theorem dX7_span_59 : decode cX7_span 59 = .ok (.istore 5, 2) := dk_54 5 (dk_at dksX7_span_2 14 rfl rfl)
theorem dX7_span_61 : decode cX7_span 61 = .ok (.aload_n 0, 1) := dk_42 (dk_at dksX7_span_2 16 rfl rfl)
theorem dX7_span_62 : decode cX7_span 62 = .ok (.invokevirtual 398, 3) := dk_182 1 142 (dk_at dksX7_span_2 17 rfl rfl)
theorem dX7_span_65 : decode cX7_span 65 = .ok (.invokestatic 369, 3) := dk_184 1 113 (dk_at dksX7_span_2 20 rfl rfl)
theorem dX7_span_68 : decode cX7_span 68 = .ok (.istore 6, 2) := dk_54 6 (dk_at dksX7_span_3 0 rfl rfl)
theorem dX7_span_70 : decode cX7_span 70 = .ok (.aload_n 0, 1) := dk_42 (dk_at dksX7_span_3 2 rfl rfl)
theorem dX7_span_71 : decode cX7_span 71 = .ok (.invokevirtual 209, 3) := dk_182 0 209 (dk_at dksX7_span_3 3 rfl rfl)
theorem dX7_span_74 : decode cX7_span 74 = .ok (.iload_n 3, 1) := dk_29 (dk_at dksX7_span_3 6 rfl rfl)
theorem dX7_span_75 : decode cX7_span 75 = .ok (.iconst (-1), 1) := dk_2 (dk_at dksX7_span_3 7 rfl rfl)
theorem dX7_span_76 : decode cX7_span 76 = .ok (.if_icmp .ne 8, 3) := dk_160 0 8 (dk_at dksX7_span_3 8 rfl rfl)
theorem dX7_span_79 : decode cX7_span 79 = .ok (.iload 6, 2) := dk_21 6 (dk_at dksX7_span_3 11 rfl rfl)
theorem dX7_span_81 : decode cX7_span 81 = .ok (.goto 22, 3) := dk_167 0 22 (dk_at dksX7_span_3 13 rfl rfl)
theorem dX7_span_84 : decode cX7_span 84 = .ok (.iload_n 2, 1) := dk_28 (dk_at dksX7_span_3 16 rfl rfl)
theorem dX7_span_85 : decode cX7_span 85 = .ok (.ifCond .eq 12, 3) := dk_153 0 12 (dk_at dksX7_span_3 17 rfl rfl)
theorem dX7_span_88 : decode cX7_span 88 = .ok (.iload_n 3, 1) := dk_29 (dk_at dksX7_span_3 20 rfl rfl)
theorem dX7_span_89 : decode cX7_span 89 = .ok (.iload 6, 2) := dk_21 6 (dk_at dksX7_span_3 21 rfl rfl)
theorem dX7_span_91 : decode cX7_span 91 = .ok (.invokestatic 269, 3) := dk_184 1 13 (dk_at dksX7_span_4 0 rfl rfl)
theorem dX7_span_94 : decode cX7_span 94 = .ok (.goto 9, 3) := dk_167 0 9 (dk_at dksX7_span_4 3 rfl rfl)
theorem dX7_span_97 : decode cX7_span 97 = .ok (.iload_n 3, 1) := dk_29 (dk_at dksX7_span_4 6 rfl rfl)
theorem dX7_span_98 : decode cX7_span 98 = .ok (.iload 6, 2) := dk_21 6 (dk_at dksX7_span_4 7 rfl rfl)
theorem dX7_span_100 : decode cX7_span 100 = .ok (.invokestatic 276, 3) := dk_184 1 20 (dk_at dksX7_span_4 9 rfl rfl)
theorem dX7_span_103 : decode cX7_span 103 = .ok (.istore_n 3, 1) := dk_62 (dk_at dksX7_span_4 12 rfl rfl)
theorem dX7_span_104 : decode cX7_span 104 = .ok (.iinc 4 1, 3) := dk_132 4 1 (dk_at dksX7_span_4 13 rfl rfl)
theorem dX7_span_107 : decode cX7_span 107 = .ok (.goto (-70), 3) := dk_167 255 186 (dk_at dksX7_span_4 16 rfl rfl)
theorem dX7_span_110 : decode cX7_span 110 = .ok (.iload_n 3, 1) := dk_29 (dk_at dksX7_span_4 19 rfl rfl)
theorem dX7_span_111 : decode cX7_span 111 = .ok (.ireturn, 1) := dk_172 (dk_at dksX7_span_4 20 rfl rfl)
abbrev cX7_paidOnes : ByteArray := prog_20_method_122_code
def yX7_paidOnes : MethodName := ⟨RX7, "paidOnes", "()I"⟩
def dkwX7_paidOnes_1 : List UInt8 := [128, 60, 132, 2, 1, 167, 255, 231, 27, 172]
abbrev dktX7_paidOnes_1 : List UInt8 := dkwX7_paidOnes_1 ++ []
def dkwX7_paidOnes_0 : List UInt8 := [3, 60, 3, 61, 28, 42, 180, 0, 7, 8, 46, 162, 0, 21, 27, 42, 28, 16, 11, 182, 0, 52, 28, 120]
abbrev dktX7_paidOnes_0 : List UInt8 := dkwX7_paidOnes_0 ++ dktX7_paidOnes_1
theorem dksX7_paidOnes_0 : cX7_paidOnes.data.toList.drop 0 = dktX7_paidOnes_0 := by decide +kernel
theorem dksX7_paidOnes_1 : cX7_paidOnes.data.toList.drop 24 = dktX7_paidOnes_1 := dk_seg dksX7_paidOnes_0 24 rfl rfl
theorem dX7_paidOnes_0 : decode cX7_paidOnes 0 = .ok (.iconst 0, 1) := dk_3 (dk_at dksX7_paidOnes_0 0 rfl rfl)
theorem dX7_paidOnes_1 : decode cX7_paidOnes 1 = .ok (.istore_n 1, 1) := dk_60 (dk_at dksX7_paidOnes_0 1 rfl rfl)
theorem dX7_paidOnes_2 : decode cX7_paidOnes 2 = .ok (.iconst 0, 1) := dk_3 (dk_at dksX7_paidOnes_0 2 rfl rfl)
theorem dX7_paidOnes_3 : decode cX7_paidOnes 3 = .ok (.istore_n 2, 1) := dk_61 (dk_at dksX7_paidOnes_0 3 rfl rfl)
theorem dX7_paidOnes_4 : decode cX7_paidOnes 4 = .ok (.iload_n 2, 1) := dk_28 (dk_at dksX7_paidOnes_0 4 rfl rfl)
theorem dX7_paidOnes_5 : decode cX7_paidOnes 5 = .ok (.aload_n 0, 1) := dk_42 (dk_at dksX7_paidOnes_0 5 rfl rfl)
theorem dX7_paidOnes_6 : decode cX7_paidOnes 6 = .ok (.getfield 7, 3) := dk_180 0 7 (dk_at dksX7_paidOnes_0 6 rfl rfl)
theorem dX7_paidOnes_9 : decode cX7_paidOnes 9 = .ok (.iconst 5, 1) := dk_8 (dk_at dksX7_paidOnes_0 9 rfl rfl)
theorem dX7_paidOnes_10 : decode cX7_paidOnes 10 = .ok (.iaload, 1) := dk_46 (dk_at dksX7_paidOnes_0 10 rfl rfl)
theorem dX7_paidOnes_11 : decode cX7_paidOnes 11 = .ok (.if_icmp .ge 21, 3) := dk_162 0 21 (dk_at dksX7_paidOnes_0 11 rfl rfl)
theorem dX7_paidOnes_14 : decode cX7_paidOnes 14 = .ok (.iload_n 1, 1) := dk_27 (dk_at dksX7_paidOnes_0 14 rfl rfl)
theorem dX7_paidOnes_15 : decode cX7_paidOnes 15 = .ok (.aload_n 0, 1) := dk_42 (dk_at dksX7_paidOnes_0 15 rfl rfl)
theorem dX7_paidOnes_16 : decode cX7_paidOnes 16 = .ok (.iload_n 2, 1) := dk_28 (dk_at dksX7_paidOnes_0 16 rfl rfl)
theorem dX7_paidOnes_17 : decode cX7_paidOnes 17 = .ok (.bipush 11, 2) := dk_16 11 (dk_at dksX7_paidOnes_0 17 rfl rfl)
theorem dX7_paidOnes_19 : decode cX7_paidOnes 19 = .ok (.invokevirtual 52, 3) := dk_182 0 52 (dk_at dksX7_paidOnes_0 19 rfl rfl)
theorem dX7_paidOnes_22 : decode cX7_paidOnes 22 = .ok (.iload_n 2, 1) := dk_28 (dk_at dksX7_paidOnes_0 22 rfl rfl)
theorem dX7_paidOnes_23 : decode cX7_paidOnes 23 = .ok (.ishl, 1) := dk_120 (dk_at dksX7_paidOnes_0 23 rfl rfl)
theorem dX7_paidOnes_24 : decode cX7_paidOnes 24 = .ok (.ior, 1) := dk_128 (dk_at dksX7_paidOnes_1 0 rfl rfl)
theorem dX7_paidOnes_25 : decode cX7_paidOnes 25 = .ok (.istore_n 1, 1) := dk_60 (dk_at dksX7_paidOnes_1 1 rfl rfl)
theorem dX7_paidOnes_26 : decode cX7_paidOnes 26 = .ok (.iinc 2 1, 3) := dk_132 2 1 (dk_at dksX7_paidOnes_1 2 rfl rfl)
theorem dX7_paidOnes_29 : decode cX7_paidOnes 29 = .ok (.goto (-25), 3) := dk_167 255 231 (dk_at dksX7_paidOnes_1 5 rfl rfl)
theorem dX7_paidOnes_32 : decode cX7_paidOnes 32 = .ok (.iload_n 1, 1) := dk_27 (dk_at dksX7_paidOnes_1 8 rfl rfl)
theorem dX7_paidOnes_33 : decode cX7_paidOnes 33 = .ok (.ireturn, 1) := dk_172 (dk_at dksX7_paidOnes_1 9 rfl rfl)
abbrev cX7_led : ByteArray := prog_20_method_126_code
def yX7_led : MethodName := ⟨RX7, "led", "(IZ)I"⟩
def dkwX7_led_3 : List UInt8 := [54, 4, 132, 5, 255, 167, 255, 222, 28, 153, 0, 8, 21, 4, 167, 0, 4, 29, 172]
abbrev dktX7_led_3 : List UInt8 := dkwX7_led_3 ++ []
def dkwX7_led_2 : List UInt8 := [21, 5, 4, 182, 1, 145, 27, 159, 0, 6, 167, 0, 15, 132, 3, 1, 42, 21, 5, 3, 182, 1, 145]
abbrev dktX7_led_2 : List UInt8 := dkwX7_led_2 ++ dktX7_led_3
def dkwX7_led_1 : List UInt8 := [3, 172, 3, 62, 2, 54, 4, 42, 180, 0, 7, 16, 9, 46, 4, 100, 54, 5, 21, 5, 155, 0, 35, 42]
abbrev dktX7_led_1 : List UInt8 := dkwX7_led_1 ++ dktX7_led_2
def dkwX7_led_0 : List UInt8 := [42, 42, 27, 182, 1, 69, 154, 0, 7, 4, 167, 0, 4, 3, 181, 0, 45, 42, 180, 0, 45, 158, 0, 5]
abbrev dktX7_led_0 : List UInt8 := dkwX7_led_0 ++ dktX7_led_1
theorem dksX7_led_0 : cX7_led.data.toList.drop 0 = dktX7_led_0 := by decide +kernel
theorem dksX7_led_1 : cX7_led.data.toList.drop 24 = dktX7_led_1 := dk_seg dksX7_led_0 24 rfl rfl
theorem dksX7_led_2 : cX7_led.data.toList.drop 48 = dktX7_led_2 := dk_seg dksX7_led_1 24 rfl rfl
theorem dksX7_led_3 : cX7_led.data.toList.drop 71 = dktX7_led_3 := dk_seg dksX7_led_2 23 rfl rfl
theorem dX7_led_0 : decode cX7_led 0 = .ok (.aload_n 0, 1) := dk_42 (dk_at dksX7_led_0 0 rfl rfl)
theorem dX7_led_1 : decode cX7_led 1 = .ok (.aload_n 0, 1) := dk_42 (dk_at dksX7_led_0 1 rfl rfl)
theorem dX7_led_2 : decode cX7_led 2 = .ok (.iload_n 1, 1) := dk_27 (dk_at dksX7_led_0 2 rfl rfl)
theorem dX7_led_3 : decode cX7_led 3 = .ok (.invokevirtual 325, 3) := dk_182 1 69 (dk_at dksX7_led_0 3 rfl rfl)
theorem dX7_led_6 : decode cX7_led 6 = .ok (.ifCond .ne 7, 3) := dk_154 0 7 (dk_at dksX7_led_0 6 rfl rfl)
theorem dX7_led_9 : decode cX7_led 9 = .ok (.iconst 1, 1) := dk_4 (dk_at dksX7_led_0 9 rfl rfl)
theorem dX7_led_10 : decode cX7_led 10 = .ok (.goto 4, 3) := dk_167 0 4 (dk_at dksX7_led_0 10 rfl rfl)
theorem dX7_led_13 : decode cX7_led 13 = .ok (.iconst 0, 1) := dk_3 (dk_at dksX7_led_0 13 rfl rfl)
theorem dX7_led_14 : decode cX7_led 14 = .ok (.putfield 45, 3) := dk_181 0 45 (dk_at dksX7_led_0 14 rfl rfl)
theorem dX7_led_17 : decode cX7_led 17 = .ok (.aload_n 0, 1) := dk_42 (dk_at dksX7_led_0 17 rfl rfl)
theorem dX7_led_18 : decode cX7_led 18 = .ok (.getfield 45, 3) := dk_180 0 45 (dk_at dksX7_led_0 18 rfl rfl)
theorem dX7_led_21 : decode cX7_led 21 = .ok (.ifCond .le 5, 3) := dk_158 0 5 (dk_at dksX7_led_0 21 rfl rfl)
theorem dX7_led_24 : decode cX7_led 24 = .ok (.iconst 0, 1) := dk_3 (dk_at dksX7_led_1 0 rfl rfl)
theorem dX7_led_25 : decode cX7_led 25 = .ok (.ireturn, 1) := dk_172 (dk_at dksX7_led_1 1 rfl rfl)
theorem dX7_led_26 : decode cX7_led 26 = .ok (.iconst 0, 1) := dk_3 (dk_at dksX7_led_1 2 rfl rfl)
theorem dX7_led_27 : decode cX7_led 27 = .ok (.istore_n 3, 1) := dk_62 (dk_at dksX7_led_1 3 rfl rfl)
theorem dX7_led_28 : decode cX7_led 28 = .ok (.iconst (-1), 1) := dk_2 (dk_at dksX7_led_1 4 rfl rfl)
theorem dX7_led_29 : decode cX7_led 29 = .ok (.istore 4, 2) := dk_54 4 (dk_at dksX7_led_1 5 rfl rfl)
theorem dX7_led_31 : decode cX7_led 31 = .ok (.aload_n 0, 1) := dk_42 (dk_at dksX7_led_1 7 rfl rfl)
theorem dX7_led_32 : decode cX7_led 32 = .ok (.getfield 7, 3) := dk_180 0 7 (dk_at dksX7_led_1 8 rfl rfl)
theorem dX7_led_35 : decode cX7_led 35 = .ok (.bipush 9, 2) := dk_16 9 (dk_at dksX7_led_1 11 rfl rfl)
theorem dX7_led_37 : decode cX7_led 37 = .ok (.iaload, 1) := dk_46 (dk_at dksX7_led_1 13 rfl rfl)
theorem dX7_led_38 : decode cX7_led 38 = .ok (.iconst 1, 1) := dk_4 (dk_at dksX7_led_1 14 rfl rfl)
theorem dX7_led_39 : decode cX7_led 39 = .ok (.isub, 1) := dk_100 (dk_at dksX7_led_1 15 rfl rfl)
theorem dX7_led_40 : decode cX7_led 40 = .ok (.istore 5, 2) := dk_54 5 (dk_at dksX7_led_1 16 rfl rfl)
theorem dX7_led_42 : decode cX7_led 42 = .ok (.iload 5, 2) := dk_21 5 (dk_at dksX7_led_1 18 rfl rfl)
theorem dX7_led_44 : decode cX7_led 44 = .ok (.ifCond .lt 35, 3) := dk_155 0 35 (dk_at dksX7_led_1 20 rfl rfl)
theorem dX7_led_47 : decode cX7_led 47 = .ok (.aload_n 0, 1) := dk_42 (dk_at dksX7_led_1 23 rfl rfl)
theorem dX7_led_48 : decode cX7_led 48 = .ok (.iload 5, 2) := dk_21 5 (dk_at dksX7_led_2 0 rfl rfl)
theorem dX7_led_50 : decode cX7_led 50 = .ok (.iconst 1, 1) := dk_4 (dk_at dksX7_led_2 2 rfl rfl)
theorem dX7_led_51 : decode cX7_led 51 = .ok (.invokevirtual 401, 3) := dk_182 1 145 (dk_at dksX7_led_2 3 rfl rfl)
theorem dX7_led_54 : decode cX7_led 54 = .ok (.iload_n 1, 1) := dk_27 (dk_at dksX7_led_2 6 rfl rfl)
theorem dX7_led_55 : decode cX7_led 55 = .ok (.if_icmp .eq 6, 3) := dk_159 0 6 (dk_at dksX7_led_2 7 rfl rfl)
theorem dX7_led_58 : decode cX7_led 58 = .ok (.goto 15, 3) := dk_167 0 15 (dk_at dksX7_led_2 10 rfl rfl)
theorem dX7_led_61 : decode cX7_led 61 = .ok (.iinc 3 1, 3) := dk_132 3 1 (dk_at dksX7_led_2 13 rfl rfl)
theorem dX7_led_64 : decode cX7_led 64 = .ok (.aload_n 0, 1) := dk_42 (dk_at dksX7_led_2 16 rfl rfl)
theorem dX7_led_65 : decode cX7_led 65 = .ok (.iload 5, 2) := dk_21 5 (dk_at dksX7_led_2 17 rfl rfl)
theorem dX7_led_67 : decode cX7_led 67 = .ok (.iconst 0, 1) := dk_3 (dk_at dksX7_led_2 19 rfl rfl)
theorem dX7_led_68 : decode cX7_led 68 = .ok (.invokevirtual 401, 3) := dk_182 1 145 (dk_at dksX7_led_2 20 rfl rfl)
theorem dX7_led_71 : decode cX7_led 71 = .ok (.istore 4, 2) := dk_54 4 (dk_at dksX7_led_3 0 rfl rfl)
theorem dX7_led_73 : decode cX7_led 73 = .ok (.iinc 5 (-1), 3) := dk_132 5 255 (dk_at dksX7_led_3 2 rfl rfl)
theorem dX7_led_76 : decode cX7_led 76 = .ok (.goto (-34), 3) := dk_167 255 222 (dk_at dksX7_led_3 5 rfl rfl)
theorem dX7_led_79 : decode cX7_led 79 = .ok (.iload_n 2, 1) := dk_28 (dk_at dksX7_led_3 8 rfl rfl)
theorem dX7_led_80 : decode cX7_led 80 = .ok (.ifCond .eq 8, 3) := dk_153 0 8 (dk_at dksX7_led_3 9 rfl rfl)
theorem dX7_led_83 : decode cX7_led 83 = .ok (.iload 4, 2) := dk_21 4 (dk_at dksX7_led_3 12 rfl rfl)
theorem dX7_led_85 : decode cX7_led 85 = .ok (.goto 4, 3) := dk_167 0 4 (dk_at dksX7_led_3 14 rfl rfl)
theorem dX7_led_88 : decode cX7_led 88 = .ok (.iload_n 3, 1) := dk_29 (dk_at dksX7_led_3 17 rfl rfl)
theorem dX7_led_89 : decode cX7_led 89 = .ok (.ireturn, 1) := dk_172 (dk_at dksX7_led_3 18 rfl rfl)
abbrev cX7_logged : ByteArray := prog_20_method_125_code
def yX7_logged : MethodName := ⟨RX7, "logged", "(II)I"⟩
def dkwX7_logged_0 : List UInt8 := [42, 180, 0, 7, 17, 0, 141, 7, 27, 104, 96, 28, 96, 46, 172]
abbrev dktX7_logged_0 : List UInt8 := dkwX7_logged_0 ++ []
theorem dksX7_logged_0 : cX7_logged.data.toList.drop 0 = dktX7_logged_0 := by decide +kernel
theorem dX7_logged_0 : decode cX7_logged 0 = .ok (.aload_n 0, 1) := dk_42 (dk_at dksX7_logged_0 0 rfl rfl)
theorem dX7_logged_1 : decode cX7_logged 1 = .ok (.getfield 7, 3) := dk_180 0 7 (dk_at dksX7_logged_0 1 rfl rfl)
theorem dX7_logged_4 : decode cX7_logged 4 = .ok (.sipush 141, 3) := dk_17 0 141 (dk_at dksX7_logged_0 4 rfl rfl)
theorem dX7_logged_7 : decode cX7_logged 7 = .ok (.iconst 4, 1) := dk_7 (dk_at dksX7_logged_0 7 rfl rfl)
theorem dX7_logged_8 : decode cX7_logged 8 = .ok (.iload_n 1, 1) := dk_27 (dk_at dksX7_logged_0 8 rfl rfl)
theorem dX7_logged_9 : decode cX7_logged 9 = .ok (.imul, 1) := dk_104 (dk_at dksX7_logged_0 9 rfl rfl)
theorem dX7_logged_10 : decode cX7_logged 10 = .ok (.iadd, 1) := dk_96 (dk_at dksX7_logged_0 10 rfl rfl)
theorem dX7_logged_11 : decode cX7_logged 11 = .ok (.iload_n 2, 1) := dk_28 (dk_at dksX7_logged_0 11 rfl rfl)
theorem dX7_logged_12 : decode cX7_logged 12 = .ok (.iadd, 1) := dk_96 (dk_at dksX7_logged_0 12 rfl rfl)
theorem dX7_logged_13 : decode cX7_logged 13 = .ok (.iaload, 1) := dk_46 (dk_at dksX7_logged_0 13 rfl rfl)
theorem dX7_logged_14 : decode cX7_logged 14 = .ok (.ireturn, 1) := dk_172 (dk_at dksX7_logged_0 14 rfl rfl)
abbrev cX7_log : ByteArray := prog_20_method_127_code
def yX7_log : MethodName := ⟨RX7, "log", "(II)I"⟩
def dkwX7_log_2 : List UInt8 := [28, 182, 1, 145, 167, 0, 4, 2, 172]
abbrev dktX7_log_2 : List UInt8 := dkwX7_log_2 ++ []
def dkwX7_log_1 : List UInt8 := [158, 0, 5, 3, 172, 27, 3, 42, 180, 0, 7, 16, 9, 46, 4, 100, 184, 0, 48, 153, 0, 12, 42, 27]
abbrev dktX7_log_1 : List UInt8 := dkwX7_log_1 ++ dktX7_log_2
def dkwX7_log_0 : List UInt8 := [42, 28, 3, 6, 184, 0, 48, 154, 0, 7, 4, 167, 0, 4, 3, 181, 0, 45, 42, 180, 0, 45]
abbrev dktX7_log_0 : List UInt8 := dkwX7_log_0 ++ dktX7_log_1
theorem dksX7_log_0 : cX7_log.data.toList.drop 0 = dktX7_log_0 := by decide +kernel
theorem dksX7_log_1 : cX7_log.data.toList.drop 22 = dktX7_log_1 := dk_seg dksX7_log_0 22 rfl rfl
theorem dksX7_log_2 : cX7_log.data.toList.drop 46 = dktX7_log_2 := dk_seg dksX7_log_1 24 rfl rfl
theorem dX7_log_0 : decode cX7_log 0 = .ok (.aload_n 0, 1) := dk_42 (dk_at dksX7_log_0 0 rfl rfl)
theorem dX7_log_1 : decode cX7_log 1 = .ok (.iload_n 2, 1) := dk_28 (dk_at dksX7_log_0 1 rfl rfl)
theorem dX7_log_2 : decode cX7_log 2 = .ok (.iconst 0, 1) := dk_3 (dk_at dksX7_log_0 2 rfl rfl)
theorem dX7_log_3 : decode cX7_log 3 = .ok (.iconst 3, 1) := dk_6 (dk_at dksX7_log_0 3 rfl rfl)
theorem dX7_log_4 : decode cX7_log 4 = .ok (.invokestatic 48, 3) := dk_184 0 48 (dk_at dksX7_log_0 4 rfl rfl)
theorem dX7_log_7 : decode cX7_log 7 = .ok (.ifCond .ne 7, 3) := dk_154 0 7 (dk_at dksX7_log_0 7 rfl rfl)
theorem dX7_log_10 : decode cX7_log 10 = .ok (.iconst 1, 1) := dk_4 (dk_at dksX7_log_0 10 rfl rfl)
theorem dX7_log_11 : decode cX7_log 11 = .ok (.goto 4, 3) := dk_167 0 4 (dk_at dksX7_log_0 11 rfl rfl)
theorem dX7_log_14 : decode cX7_log 14 = .ok (.iconst 0, 1) := dk_3 (dk_at dksX7_log_0 14 rfl rfl)
theorem dX7_log_15 : decode cX7_log 15 = .ok (.putfield 45, 3) := dk_181 0 45 (dk_at dksX7_log_0 15 rfl rfl)
theorem dX7_log_18 : decode cX7_log 18 = .ok (.aload_n 0, 1) := dk_42 (dk_at dksX7_log_0 18 rfl rfl)
theorem dX7_log_19 : decode cX7_log 19 = .ok (.getfield 45, 3) := dk_180 0 45 (dk_at dksX7_log_0 19 rfl rfl)
theorem dX7_log_22 : decode cX7_log 22 = .ok (.ifCond .le 5, 3) := dk_158 0 5 (dk_at dksX7_log_1 0 rfl rfl)
theorem dX7_log_25 : decode cX7_log 25 = .ok (.iconst 0, 1) := dk_3 (dk_at dksX7_log_1 3 rfl rfl)
theorem dX7_log_26 : decode cX7_log 26 = .ok (.ireturn, 1) := dk_172 (dk_at dksX7_log_1 4 rfl rfl)
theorem dX7_log_27 : decode cX7_log 27 = .ok (.iload_n 1, 1) := dk_27 (dk_at dksX7_log_1 5 rfl rfl)
theorem dX7_log_28 : decode cX7_log 28 = .ok (.iconst 0, 1) := dk_3 (dk_at dksX7_log_1 6 rfl rfl)
theorem dX7_log_29 : decode cX7_log 29 = .ok (.aload_n 0, 1) := dk_42 (dk_at dksX7_log_1 7 rfl rfl)
theorem dX7_log_30 : decode cX7_log 30 = .ok (.getfield 7, 3) := dk_180 0 7 (dk_at dksX7_log_1 8 rfl rfl)
theorem dX7_log_33 : decode cX7_log 33 = .ok (.bipush 9, 2) := dk_16 9 (dk_at dksX7_log_1 11 rfl rfl)
theorem dX7_log_35 : decode cX7_log 35 = .ok (.iaload, 1) := dk_46 (dk_at dksX7_log_1 13 rfl rfl)
theorem dX7_log_36 : decode cX7_log 36 = .ok (.iconst 1, 1) := dk_4 (dk_at dksX7_log_1 14 rfl rfl)
theorem dX7_log_37 : decode cX7_log 37 = .ok (.isub, 1) := dk_100 (dk_at dksX7_log_1 15 rfl rfl)
theorem dX7_log_38 : decode cX7_log 38 = .ok (.invokestatic 48, 3) := dk_184 0 48 (dk_at dksX7_log_1 16 rfl rfl)
theorem dX7_log_41 : decode cX7_log 41 = .ok (.ifCond .eq 12, 3) := dk_153 0 12 (dk_at dksX7_log_1 19 rfl rfl)
theorem dX7_log_44 : decode cX7_log 44 = .ok (.aload_n 0, 1) := dk_42 (dk_at dksX7_log_1 22 rfl rfl)
theorem dX7_log_45 : decode cX7_log 45 = .ok (.iload_n 1, 1) := dk_27 (dk_at dksX7_log_1 23 rfl rfl)
theorem dX7_log_46 : decode cX7_log 46 = .ok (.iload_n 2, 1) := dk_28 (dk_at dksX7_log_2 0 rfl rfl)
theorem dX7_log_47 : decode cX7_log 47 = .ok (.invokevirtual 401, 3) := dk_182 1 145 (dk_at dksX7_log_2 1 rfl rfl)
theorem dX7_log_50 : decode cX7_log 50 = .ok (.goto 4, 3) := dk_167 0 4 (dk_at dksX7_log_2 4 rfl rfl)
theorem dX7_log_53 : decode cX7_log 53 = .ok (.iconst (-1), 1) := dk_2 (dk_at dksX7_log_2 7 rfl rfl)
theorem dX7_log_54 : decode cX7_log 54 = .ok (.ireturn, 1) := dk_172 (dk_at dksX7_log_2 8 rfl rfl)
abbrev cX7_damp : ByteArray := prog_20_method_128_code
def yX7_damp : MethodName := ⟨RX7, "damp", "(I)I"⟩
def dkwX7_damp_1 : List UInt8 := [158, 0, 7, 3, 167, 0, 12, 42, 180, 0, 7, 16, 11, 27, 96, 46, 172]
abbrev dktX7_damp_1 : List UInt8 := dkwX7_damp_1 ++ []
def dkwX7_damp_0 : List UInt8 := [42, 27, 3, 6, 184, 0, 48, 154, 0, 7, 4, 167, 0, 4, 3, 181, 0, 45, 42, 180, 0, 45]
abbrev dktX7_damp_0 : List UInt8 := dkwX7_damp_0 ++ dktX7_damp_1
theorem dksX7_damp_0 : cX7_damp.data.toList.drop 0 = dktX7_damp_0 := by decide +kernel
theorem dksX7_damp_1 : cX7_damp.data.toList.drop 22 = dktX7_damp_1 := dk_seg dksX7_damp_0 22 rfl rfl
theorem dX7_damp_0 : decode cX7_damp 0 = .ok (.aload_n 0, 1) := dk_42 (dk_at dksX7_damp_0 0 rfl rfl)
theorem dX7_damp_1 : decode cX7_damp 1 = .ok (.iload_n 1, 1) := dk_27 (dk_at dksX7_damp_0 1 rfl rfl)
theorem dX7_damp_2 : decode cX7_damp 2 = .ok (.iconst 0, 1) := dk_3 (dk_at dksX7_damp_0 2 rfl rfl)
theorem dX7_damp_3 : decode cX7_damp 3 = .ok (.iconst 3, 1) := dk_6 (dk_at dksX7_damp_0 3 rfl rfl)
theorem dX7_damp_4 : decode cX7_damp 4 = .ok (.invokestatic 48, 3) := dk_184 0 48 (dk_at dksX7_damp_0 4 rfl rfl)
theorem dX7_damp_7 : decode cX7_damp 7 = .ok (.ifCond .ne 7, 3) := dk_154 0 7 (dk_at dksX7_damp_0 7 rfl rfl)
theorem dX7_damp_10 : decode cX7_damp 10 = .ok (.iconst 1, 1) := dk_4 (dk_at dksX7_damp_0 10 rfl rfl)
theorem dX7_damp_11 : decode cX7_damp 11 = .ok (.goto 4, 3) := dk_167 0 4 (dk_at dksX7_damp_0 11 rfl rfl)
theorem dX7_damp_14 : decode cX7_damp 14 = .ok (.iconst 0, 1) := dk_3 (dk_at dksX7_damp_0 14 rfl rfl)
theorem dX7_damp_15 : decode cX7_damp 15 = .ok (.putfield 45, 3) := dk_181 0 45 (dk_at dksX7_damp_0 15 rfl rfl)
theorem dX7_damp_18 : decode cX7_damp 18 = .ok (.aload_n 0, 1) := dk_42 (dk_at dksX7_damp_0 18 rfl rfl)
theorem dX7_damp_19 : decode cX7_damp 19 = .ok (.getfield 45, 3) := dk_180 0 45 (dk_at dksX7_damp_0 19 rfl rfl)
theorem dX7_damp_22 : decode cX7_damp 22 = .ok (.ifCond .le 7, 3) := dk_158 0 7 (dk_at dksX7_damp_1 0 rfl rfl)
theorem dX7_damp_25 : decode cX7_damp 25 = .ok (.iconst 0, 1) := dk_3 (dk_at dksX7_damp_1 3 rfl rfl)
theorem dX7_damp_26 : decode cX7_damp 26 = .ok (.goto 12, 3) := dk_167 0 12 (dk_at dksX7_damp_1 4 rfl rfl)
theorem dX7_damp_29 : decode cX7_damp 29 = .ok (.aload_n 0, 1) := dk_42 (dk_at dksX7_damp_1 7 rfl rfl)
theorem dX7_damp_30 : decode cX7_damp 30 = .ok (.getfield 7, 3) := dk_180 0 7 (dk_at dksX7_damp_1 8 rfl rfl)
theorem dX7_damp_33 : decode cX7_damp 33 = .ok (.bipush 11, 2) := dk_16 11 (dk_at dksX7_damp_1 11 rfl rfl)
theorem dX7_damp_35 : decode cX7_damp 35 = .ok (.iload_n 1, 1) := dk_27 (dk_at dksX7_damp_1 13 rfl rfl)
theorem dX7_damp_36 : decode cX7_damp 36 = .ok (.iadd, 1) := dk_96 (dk_at dksX7_damp_1 14 rfl rfl)
theorem dX7_damp_37 : decode cX7_damp 37 = .ok (.iaload, 1) := dk_46 (dk_at dksX7_damp_1 15 rfl rfl)
theorem dX7_damp_38 : decode cX7_damp 38 = .ok (.ireturn, 1) := dk_172 (dk_at dksX7_damp_1 16 rfl rfl)
abbrev cX7_seed : ByteArray := prog_20_method_129_code
def yX7_seed : MethodName := ⟨RX7, "seed", "(I)I"⟩
def dkwX7_seed_0 : List UInt8 := [42, 3, 181, 0, 45, 42, 180, 0, 7, 16, 10, 46, 61, 42, 180, 0, 7, 16, 10, 27, 79, 28, 172]
abbrev dktX7_seed_0 : List UInt8 := dkwX7_seed_0 ++ []
theorem dksX7_seed_0 : cX7_seed.data.toList.drop 0 = dktX7_seed_0 := by decide +kernel
theorem dX7_seed_0 : decode cX7_seed 0 = .ok (.aload_n 0, 1) := dk_42 (dk_at dksX7_seed_0 0 rfl rfl)
theorem dX7_seed_1 : decode cX7_seed 1 = .ok (.iconst 0, 1) := dk_3 (dk_at dksX7_seed_0 1 rfl rfl)
theorem dX7_seed_2 : decode cX7_seed 2 = .ok (.putfield 45, 3) := dk_181 0 45 (dk_at dksX7_seed_0 2 rfl rfl)
theorem dX7_seed_5 : decode cX7_seed 5 = .ok (.aload_n 0, 1) := dk_42 (dk_at dksX7_seed_0 5 rfl rfl)
theorem dX7_seed_6 : decode cX7_seed 6 = .ok (.getfield 7, 3) := dk_180 0 7 (dk_at dksX7_seed_0 6 rfl rfl)
theorem dX7_seed_9 : decode cX7_seed 9 = .ok (.bipush 10, 2) := dk_16 10 (dk_at dksX7_seed_0 9 rfl rfl)
theorem dX7_seed_11 : decode cX7_seed 11 = .ok (.iaload, 1) := dk_46 (dk_at dksX7_seed_0 11 rfl rfl)
theorem dX7_seed_12 : decode cX7_seed 12 = .ok (.istore_n 2, 1) := dk_61 (dk_at dksX7_seed_0 12 rfl rfl)
theorem dX7_seed_13 : decode cX7_seed 13 = .ok (.aload_n 0, 1) := dk_42 (dk_at dksX7_seed_0 13 rfl rfl)
theorem dX7_seed_14 : decode cX7_seed 14 = .ok (.getfield 7, 3) := dk_180 0 7 (dk_at dksX7_seed_0 14 rfl rfl)
theorem dX7_seed_17 : decode cX7_seed 17 = .ok (.bipush 10, 2) := dk_16 10 (dk_at dksX7_seed_0 17 rfl rfl)
theorem dX7_seed_19 : decode cX7_seed 19 = .ok (.iload_n 1, 1) := dk_27 (dk_at dksX7_seed_0 19 rfl rfl)
theorem dX7_seed_20 : decode cX7_seed 20 = .ok (.iastore, 1) := dk_79 (dk_at dksX7_seed_0 20 rfl rfl)
theorem dX7_seed_21 : decode cX7_seed 21 = .ok (.iload_n 2, 1) := dk_28 (dk_at dksX7_seed_0 21 rfl rfl)
theorem dX7_seed_22 : decode cX7_seed 22 = .ok (.ireturn, 1) := dk_172 (dk_at dksX7_seed_0 22 rfl rfl)
abbrev cX7_undo : ByteArray := prog_20_method_130_code
def yX7_undo : MethodName := ⟨RX7, "undo", "()Z"⟩
def dkwX7_undo_2 : List UInt8 := [180, 0, 212, 104, 27, 96, 46, 79, 132, 1, 1, 167, 255, 225, 4, 172]
abbrev dktX7_undo_2 : List UInt8 := dkwX7_undo_2 ++ []
def dkwX7_undo_1 : List UInt8 := [3, 60, 27, 17, 1, 125, 162, 0, 30, 42, 180, 0, 7, 27, 42, 180, 0, 19, 17, 1, 125, 42]
abbrev dktX7_undo_1 : List UInt8 := dkwX7_undo_1 ++ dktX7_undo_2
def dkwX7_undo_0 : List UInt8 := [42, 3, 181, 0, 45, 42, 180, 0, 212, 154, 0, 5, 3, 172, 42, 89, 180, 0, 212, 4, 100, 181, 0, 212]
abbrev dktX7_undo_0 : List UInt8 := dkwX7_undo_0 ++ dktX7_undo_1
theorem dksX7_undo_0 : cX7_undo.data.toList.drop 0 = dktX7_undo_0 := by decide +kernel
theorem dksX7_undo_1 : cX7_undo.data.toList.drop 24 = dktX7_undo_1 := dk_seg dksX7_undo_0 24 rfl rfl
theorem dksX7_undo_2 : cX7_undo.data.toList.drop 46 = dktX7_undo_2 := dk_seg dksX7_undo_1 22 rfl rfl
theorem dX7_undo_0 : decode cX7_undo 0 = .ok (.aload_n 0, 1) := dk_42 (dk_at dksX7_undo_0 0 rfl rfl)
theorem dX7_undo_1 : decode cX7_undo 1 = .ok (.iconst 0, 1) := dk_3 (dk_at dksX7_undo_0 1 rfl rfl)
theorem dX7_undo_2 : decode cX7_undo 2 = .ok (.putfield 45, 3) := dk_181 0 45 (dk_at dksX7_undo_0 2 rfl rfl)
theorem dX7_undo_5 : decode cX7_undo 5 = .ok (.aload_n 0, 1) := dk_42 (dk_at dksX7_undo_0 5 rfl rfl)
theorem dX7_undo_6 : decode cX7_undo 6 = .ok (.getfield 212, 3) := dk_180 0 212 (dk_at dksX7_undo_0 6 rfl rfl)
theorem dX7_undo_9 : decode cX7_undo 9 = .ok (.ifCond .ne 5, 3) := dk_154 0 5 (dk_at dksX7_undo_0 9 rfl rfl)
theorem dX7_undo_12 : decode cX7_undo 12 = .ok (.iconst 0, 1) := dk_3 (dk_at dksX7_undo_0 12 rfl rfl)
theorem dX7_undo_13 : decode cX7_undo 13 = .ok (.ireturn, 1) := dk_172 (dk_at dksX7_undo_0 13 rfl rfl)
theorem dX7_undo_14 : decode cX7_undo 14 = .ok (.aload_n 0, 1) := dk_42 (dk_at dksX7_undo_0 14 rfl rfl)
theorem dX7_undo_15 : decode cX7_undo 15 = .ok (.dup, 1) := dk_89 (dk_at dksX7_undo_0 15 rfl rfl)
theorem dX7_undo_16 : decode cX7_undo 16 = .ok (.getfield 212, 3) := dk_180 0 212 (dk_at dksX7_undo_0 16 rfl rfl)
theorem dX7_undo_19 : decode cX7_undo 19 = .ok (.iconst 1, 1) := dk_4 (dk_at dksX7_undo_0 19 rfl rfl)
theorem dX7_undo_20 : decode cX7_undo 20 = .ok (.isub, 1) := dk_100 (dk_at dksX7_undo_0 20 rfl rfl)
theorem dX7_undo_21 : decode cX7_undo 21 = .ok (.putfield 212, 3) := dk_181 0 212 (dk_at dksX7_undo_0 21 rfl rfl)
theorem dX7_undo_24 : decode cX7_undo 24 = .ok (.iconst 0, 1) := dk_3 (dk_at dksX7_undo_1 0 rfl rfl)
theorem dX7_undo_25 : decode cX7_undo 25 = .ok (.istore_n 1, 1) := dk_60 (dk_at dksX7_undo_1 1 rfl rfl)
theorem dX7_undo_26 : decode cX7_undo 26 = .ok (.iload_n 1, 1) := dk_27 (dk_at dksX7_undo_1 2 rfl rfl)
theorem dX7_undo_27 : decode cX7_undo 27 = .ok (.sipush 381, 3) := dk_17 1 125 (dk_at dksX7_undo_1 3 rfl rfl)
theorem dX7_undo_30 : decode cX7_undo 30 = .ok (.if_icmp .ge 30, 3) := dk_162 0 30 (dk_at dksX7_undo_1 6 rfl rfl)
theorem dX7_undo_33 : decode cX7_undo 33 = .ok (.aload_n 0, 1) := dk_42 (dk_at dksX7_undo_1 9 rfl rfl)
theorem dX7_undo_34 : decode cX7_undo 34 = .ok (.getfield 7, 3) := dk_180 0 7 (dk_at dksX7_undo_1 10 rfl rfl)
theorem dX7_undo_37 : decode cX7_undo 37 = .ok (.iload_n 1, 1) := dk_27 (dk_at dksX7_undo_1 13 rfl rfl)
theorem dX7_undo_38 : decode cX7_undo 38 = .ok (.aload_n 0, 1) := dk_42 (dk_at dksX7_undo_1 14 rfl rfl)
theorem dX7_undo_39 : decode cX7_undo 39 = .ok (.getfield 19, 3) := dk_180 0 19 (dk_at dksX7_undo_1 15 rfl rfl)
theorem dX7_undo_42 : decode cX7_undo 42 = .ok (.sipush 381, 3) := dk_17 1 125 (dk_at dksX7_undo_1 18 rfl rfl)
theorem dX7_undo_45 : decode cX7_undo 45 = .ok (.aload_n 0, 1) := dk_42 (dk_at dksX7_undo_1 21 rfl rfl)
theorem dX7_undo_46 : decode cX7_undo 46 = .ok (.getfield 212, 3) := dk_180 0 212 (dk_at dksX7_undo_2 0 rfl rfl)
theorem dX7_undo_49 : decode cX7_undo 49 = .ok (.imul, 1) := dk_104 (dk_at dksX7_undo_2 3 rfl rfl)
theorem dX7_undo_50 : decode cX7_undo 50 = .ok (.iload_n 1, 1) := dk_27 (dk_at dksX7_undo_2 4 rfl rfl)
theorem dX7_undo_51 : decode cX7_undo 51 = .ok (.iadd, 1) := dk_96 (dk_at dksX7_undo_2 5 rfl rfl)
theorem dX7_undo_52 : decode cX7_undo 52 = .ok (.iaload, 1) := dk_46 (dk_at dksX7_undo_2 6 rfl rfl)
theorem dX7_undo_53 : decode cX7_undo 53 = .ok (.iastore, 1) := dk_79 (dk_at dksX7_undo_2 7 rfl rfl)
theorem dX7_undo_54 : decode cX7_undo 54 = .ok (.iinc 1 1, 3) := dk_132 1 1 (dk_at dksX7_undo_2 8 rfl rfl)
theorem dX7_undo_57 : decode cX7_undo 57 = .ok (.goto (-31), 3) := dk_167 255 225 (dk_at dksX7_undo_2 11 rfl rfl)
theorem dX7_undo_60 : decode cX7_undo 60 = .ok (.iconst 1, 1) := dk_4 (dk_at dksX7_undo_2 14 rfl rfl)
theorem dX7_undo_61 : decode cX7_undo 61 = .ok (.ireturn, 1) := dk_172 (dk_at dksX7_undo_2 15 rfl rfl)
abbrev cX7_image : ByteArray := prog_20_method_131_code
def yX7_image : MethodName := ⟨RX7, "image", "()V"⟩
def dkwX7_image_1 : List UInt8 := [46, 79, 132, 1, 1, 167, 255, 234, 42, 4, 181, 1, 148, 177]
abbrev dktX7_image_1 : List UInt8 := dkwX7_image_1 ++ []
def dkwX7_image_0 : List UInt8 := [42, 3, 181, 0, 45, 3, 60, 27, 17, 3, 13, 162, 0, 21, 42, 180, 0, 13, 27, 42, 180, 0, 7, 27]
abbrev dktX7_image_0 : List UInt8 := dkwX7_image_0 ++ dktX7_image_1
theorem dksX7_image_0 : cX7_image.data.toList.drop 0 = dktX7_image_0 := by decide +kernel
theorem dksX7_image_1 : cX7_image.data.toList.drop 24 = dktX7_image_1 := dk_seg dksX7_image_0 24 rfl rfl
theorem dX7_image_0 : decode cX7_image 0 = .ok (.aload_n 0, 1) := dk_42 (dk_at dksX7_image_0 0 rfl rfl)
theorem dX7_image_1 : decode cX7_image 1 = .ok (.iconst 0, 1) := dk_3 (dk_at dksX7_image_0 1 rfl rfl)
theorem dX7_image_2 : decode cX7_image 2 = .ok (.putfield 45, 3) := dk_181 0 45 (dk_at dksX7_image_0 2 rfl rfl)
theorem dX7_image_5 : decode cX7_image 5 = .ok (.iconst 0, 1) := dk_3 (dk_at dksX7_image_0 5 rfl rfl)
theorem dX7_image_6 : decode cX7_image 6 = .ok (.istore_n 1, 1) := dk_60 (dk_at dksX7_image_0 6 rfl rfl)
theorem dX7_image_7 : decode cX7_image 7 = .ok (.iload_n 1, 1) := dk_27 (dk_at dksX7_image_0 7 rfl rfl)
theorem dX7_image_8 : decode cX7_image 8 = .ok (.sipush 781, 3) := dk_17 3 13 (dk_at dksX7_image_0 8 rfl rfl)
theorem dX7_image_11 : decode cX7_image 11 = .ok (.if_icmp .ge 21, 3) := dk_162 0 21 (dk_at dksX7_image_0 11 rfl rfl)
theorem dX7_image_14 : decode cX7_image 14 = .ok (.aload_n 0, 1) := dk_42 (dk_at dksX7_image_0 14 rfl rfl)
theorem dX7_image_15 : decode cX7_image 15 = .ok (.getfield 13, 3) := dk_180 0 13 (dk_at dksX7_image_0 15 rfl rfl)
theorem dX7_image_18 : decode cX7_image 18 = .ok (.iload_n 1, 1) := dk_27 (dk_at dksX7_image_0 18 rfl rfl)
theorem dX7_image_19 : decode cX7_image 19 = .ok (.aload_n 0, 1) := dk_42 (dk_at dksX7_image_0 19 rfl rfl)
theorem dX7_image_20 : decode cX7_image 20 = .ok (.getfield 7, 3) := dk_180 0 7 (dk_at dksX7_image_0 20 rfl rfl)
theorem dX7_image_23 : decode cX7_image 23 = .ok (.iload_n 1, 1) := dk_27 (dk_at dksX7_image_0 23 rfl rfl)
theorem dX7_image_24 : decode cX7_image 24 = .ok (.iaload, 1) := dk_46 (dk_at dksX7_image_1 0 rfl rfl)
theorem dX7_image_25 : decode cX7_image 25 = .ok (.iastore, 1) := dk_79 (dk_at dksX7_image_1 1 rfl rfl)
theorem dX7_image_26 : decode cX7_image 26 = .ok (.iinc 1 1, 3) := dk_132 1 1 (dk_at dksX7_image_1 2 rfl rfl)
theorem dX7_image_29 : decode cX7_image 29 = .ok (.goto (-22), 3) := dk_167 255 234 (dk_at dksX7_image_1 5 rfl rfl)
theorem dX7_image_32 : decode cX7_image 32 = .ok (.aload_n 0, 1) := dk_42 (dk_at dksX7_image_1 8 rfl rfl)
theorem dX7_image_33 : decode cX7_image 33 = .ok (.iconst 1, 1) := dk_4 (dk_at dksX7_image_1 9 rfl rfl)
theorem dX7_image_34 : decode cX7_image 34 = .ok (.putfield 404, 3) := dk_181 1 148 (dk_at dksX7_image_1 10 rfl rfl)
theorem dX7_image_37 : decode cX7_image 37 = .ok (.return_, 1) := dk_177 (dk_at dksX7_image_1 13 rfl rfl)
abbrev cX7_back : ByteArray := prog_20_method_132_code
def yX7_back : MethodName := ⟨RX7, "back", "()Z"⟩
def dkwX7_back_1 : List UInt8 := [180, 0, 7, 27, 42, 180, 0, 13, 27, 46, 79, 132, 1, 1, 167, 255, 234, 42, 3, 181, 0, 212, 4, 172]
abbrev dktX7_back_1 : List UInt8 := dkwX7_back_1 ++ []
def dkwX7_back_0 : List UInt8 := [42, 3, 181, 0, 45, 42, 180, 1, 148, 154, 0, 5, 3, 172, 3, 60, 27, 17, 3, 13, 162, 0, 21, 42]
abbrev dktX7_back_0 : List UInt8 := dkwX7_back_0 ++ dktX7_back_1
theorem dksX7_back_0 : cX7_back.data.toList.drop 0 = dktX7_back_0 := by decide +kernel
theorem dksX7_back_1 : cX7_back.data.toList.drop 24 = dktX7_back_1 := dk_seg dksX7_back_0 24 rfl rfl
theorem dX7_back_0 : decode cX7_back 0 = .ok (.aload_n 0, 1) := dk_42 (dk_at dksX7_back_0 0 rfl rfl)
theorem dX7_back_1 : decode cX7_back 1 = .ok (.iconst 0, 1) := dk_3 (dk_at dksX7_back_0 1 rfl rfl)
theorem dX7_back_2 : decode cX7_back 2 = .ok (.putfield 45, 3) := dk_181 0 45 (dk_at dksX7_back_0 2 rfl rfl)
theorem dX7_back_5 : decode cX7_back 5 = .ok (.aload_n 0, 1) := dk_42 (dk_at dksX7_back_0 5 rfl rfl)
theorem dX7_back_6 : decode cX7_back 6 = .ok (.getfield 404, 3) := dk_180 1 148 (dk_at dksX7_back_0 6 rfl rfl)
theorem dX7_back_9 : decode cX7_back 9 = .ok (.ifCond .ne 5, 3) := dk_154 0 5 (dk_at dksX7_back_0 9 rfl rfl)
theorem dX7_back_12 : decode cX7_back 12 = .ok (.iconst 0, 1) := dk_3 (dk_at dksX7_back_0 12 rfl rfl)
theorem dX7_back_13 : decode cX7_back 13 = .ok (.ireturn, 1) := dk_172 (dk_at dksX7_back_0 13 rfl rfl)
theorem dX7_back_14 : decode cX7_back 14 = .ok (.iconst 0, 1) := dk_3 (dk_at dksX7_back_0 14 rfl rfl)
theorem dX7_back_15 : decode cX7_back 15 = .ok (.istore_n 1, 1) := dk_60 (dk_at dksX7_back_0 15 rfl rfl)
theorem dX7_back_16 : decode cX7_back 16 = .ok (.iload_n 1, 1) := dk_27 (dk_at dksX7_back_0 16 rfl rfl)
theorem dX7_back_17 : decode cX7_back 17 = .ok (.sipush 781, 3) := dk_17 3 13 (dk_at dksX7_back_0 17 rfl rfl)
theorem dX7_back_20 : decode cX7_back 20 = .ok (.if_icmp .ge 21, 3) := dk_162 0 21 (dk_at dksX7_back_0 20 rfl rfl)
theorem dX7_back_23 : decode cX7_back 23 = .ok (.aload_n 0, 1) := dk_42 (dk_at dksX7_back_0 23 rfl rfl)
theorem dX7_back_24 : decode cX7_back 24 = .ok (.getfield 7, 3) := dk_180 0 7 (dk_at dksX7_back_1 0 rfl rfl)
theorem dX7_back_27 : decode cX7_back 27 = .ok (.iload_n 1, 1) := dk_27 (dk_at dksX7_back_1 3 rfl rfl)
theorem dX7_back_28 : decode cX7_back 28 = .ok (.aload_n 0, 1) := dk_42 (dk_at dksX7_back_1 4 rfl rfl)
theorem dX7_back_29 : decode cX7_back 29 = .ok (.getfield 13, 3) := dk_180 0 13 (dk_at dksX7_back_1 5 rfl rfl)
theorem dX7_back_32 : decode cX7_back 32 = .ok (.iload_n 1, 1) := dk_27 (dk_at dksX7_back_1 8 rfl rfl)
theorem dX7_back_33 : decode cX7_back 33 = .ok (.iaload, 1) := dk_46 (dk_at dksX7_back_1 9 rfl rfl)
theorem dX7_back_34 : decode cX7_back 34 = .ok (.iastore, 1) := dk_79 (dk_at dksX7_back_1 10 rfl rfl)
theorem dX7_back_35 : decode cX7_back 35 = .ok (.iinc 1 1, 3) := dk_132 1 1 (dk_at dksX7_back_1 11 rfl rfl)
theorem dX7_back_38 : decode cX7_back 38 = .ok (.goto (-22), 3) := dk_167 255 234 (dk_at dksX7_back_1 14 rfl rfl)
theorem dX7_back_41 : decode cX7_back 41 = .ok (.aload_n 0, 1) := dk_42 (dk_at dksX7_back_1 17 rfl rfl)
theorem dX7_back_42 : decode cX7_back 42 = .ok (.iconst 0, 1) := dk_3 (dk_at dksX7_back_1 18 rfl rfl)
theorem dX7_back_43 : decode cX7_back 43 = .ok (.putfield 212, 3) := dk_181 0 212 (dk_at dksX7_back_1 19 rfl rfl)
theorem dX7_back_46 : decode cX7_back 46 = .ok (.iconst 1, 1) := dk_4 (dk_at dksX7_back_1 22 rfl rfl)
theorem dX7_back_47 : decode cX7_back 47 = .ok (.ireturn, 1) := dk_172 (dk_at dksX7_back_1 23 rfl rfl)
abbrev cX7_count : ByteArray := prog_20_method_133_code
def yX7_count : MethodName := ⟨RX7, "count", "(I)I"⟩
def dkwX7_count_6 : List UInt8 := [29, 182, 1, 26, 96, 61, 132, 3, 1, 167, 255, 235, 27, 16, 8, 160, 0, 7, 28, 167, 0, 4, 2, 172]
abbrev dktX7_count_6 : List UInt8 := dkwX7_count_6 ++ []
def dkwX7_count_5 : List UInt8 := [160, 0, 8, 42, 180, 0, 212, 172, 3, 61, 3, 62, 29, 42, 180, 0, 7, 6, 46, 162, 0, 17, 28, 42]
abbrev dktX7_count_5 : List UInt8 := dkwX7_count_5 ++ dktX7_count_6
def dkwX7_count_4 : List UInt8 := [42, 182, 1, 142, 172, 27, 16, 10, 160, 0, 11, 42, 180, 0, 7, 16, 9, 46, 172, 27, 16, 11]
abbrev dktX7_count_4 : List UInt8 := dkwX7_count_4 ++ dktX7_count_5
def dkwX7_count_3 : List UInt8 := [184, 0, 48, 153, 0, 15, 42, 180, 0, 7, 16, 6, 27, 96, 8, 100, 46, 172, 27, 16, 9, 160, 0, 8]
abbrev dktX7_count_3 : List UInt8 := dkwX7_count_3 ++ dktX7_count_4
def dkwX7_count_2 : List UInt8 := [180, 0, 7, 3, 46, 172, 27, 7, 160, 0, 10, 42, 180, 0, 7, 4, 46, 172, 27, 8, 16, 7]
abbrev dktX7_count_2 : List UInt8 := dkwX7_count_2 ++ dktX7_count_3
def dkwX7_count_1 : List UInt8 := [180, 0, 7, 7, 46, 172, 27, 5, 160, 0, 10, 42, 180, 0, 7, 8, 46, 172, 27, 6, 160, 0, 10, 42]
abbrev dktX7_count_1 : List UInt8 := dkwX7_count_1 ++ dktX7_count_2
def dkwX7_count_0 : List UInt8 := [42, 3, 181, 0, 45, 27, 154, 0, 10, 42, 180, 0, 7, 6, 46, 172, 27, 4, 160, 0, 10, 42]
abbrev dktX7_count_0 : List UInt8 := dkwX7_count_0 ++ dktX7_count_1
theorem dksX7_count_0 : cX7_count.data.toList.drop 0 = dktX7_count_0 := by decide +kernel
theorem dksX7_count_1 : cX7_count.data.toList.drop 22 = dktX7_count_1 := dk_seg dksX7_count_0 22 rfl rfl
theorem dksX7_count_2 : cX7_count.data.toList.drop 46 = dktX7_count_2 := dk_seg dksX7_count_1 24 rfl rfl
theorem dksX7_count_3 : cX7_count.data.toList.drop 68 = dktX7_count_3 := dk_seg dksX7_count_2 22 rfl rfl
theorem dksX7_count_4 : cX7_count.data.toList.drop 92 = dktX7_count_4 := dk_seg dksX7_count_3 24 rfl rfl
theorem dksX7_count_5 : cX7_count.data.toList.drop 114 = dktX7_count_5 := dk_seg dksX7_count_4 22 rfl rfl
theorem dksX7_count_6 : cX7_count.data.toList.drop 138 = dktX7_count_6 := dk_seg dksX7_count_5 24 rfl rfl
theorem dX7_count_0 : decode cX7_count 0 = .ok (.aload_n 0, 1) := dk_42 (dk_at dksX7_count_0 0 rfl rfl)
theorem dX7_count_1 : decode cX7_count 1 = .ok (.iconst 0, 1) := dk_3 (dk_at dksX7_count_0 1 rfl rfl)
theorem dX7_count_2 : decode cX7_count 2 = .ok (.putfield 45, 3) := dk_181 0 45 (dk_at dksX7_count_0 2 rfl rfl)
theorem dX7_count_5 : decode cX7_count 5 = .ok (.iload_n 1, 1) := dk_27 (dk_at dksX7_count_0 5 rfl rfl)
theorem dX7_count_6 : decode cX7_count 6 = .ok (.ifCond .ne 10, 3) := dk_154 0 10 (dk_at dksX7_count_0 6 rfl rfl)
theorem dX7_count_9 : decode cX7_count 9 = .ok (.aload_n 0, 1) := dk_42 (dk_at dksX7_count_0 9 rfl rfl)
theorem dX7_count_10 : decode cX7_count 10 = .ok (.getfield 7, 3) := dk_180 0 7 (dk_at dksX7_count_0 10 rfl rfl)
theorem dX7_count_13 : decode cX7_count 13 = .ok (.iconst 3, 1) := dk_6 (dk_at dksX7_count_0 13 rfl rfl)
theorem dX7_count_14 : decode cX7_count 14 = .ok (.iaload, 1) := dk_46 (dk_at dksX7_count_0 14 rfl rfl)
theorem dX7_count_15 : decode cX7_count 15 = .ok (.ireturn, 1) := dk_172 (dk_at dksX7_count_0 15 rfl rfl)
theorem dX7_count_16 : decode cX7_count 16 = .ok (.iload_n 1, 1) := dk_27 (dk_at dksX7_count_0 16 rfl rfl)
theorem dX7_count_17 : decode cX7_count 17 = .ok (.iconst 1, 1) := dk_4 (dk_at dksX7_count_0 17 rfl rfl)
theorem dX7_count_18 : decode cX7_count 18 = .ok (.if_icmp .ne 10, 3) := dk_160 0 10 (dk_at dksX7_count_0 18 rfl rfl)
theorem dX7_count_21 : decode cX7_count 21 = .ok (.aload_n 0, 1) := dk_42 (dk_at dksX7_count_0 21 rfl rfl)
theorem dX7_count_22 : decode cX7_count 22 = .ok (.getfield 7, 3) := dk_180 0 7 (dk_at dksX7_count_1 0 rfl rfl)
theorem dX7_count_25 : decode cX7_count 25 = .ok (.iconst 4, 1) := dk_7 (dk_at dksX7_count_1 3 rfl rfl)
theorem dX7_count_26 : decode cX7_count 26 = .ok (.iaload, 1) := dk_46 (dk_at dksX7_count_1 4 rfl rfl)
theorem dX7_count_27 : decode cX7_count 27 = .ok (.ireturn, 1) := dk_172 (dk_at dksX7_count_1 5 rfl rfl)
theorem dX7_count_28 : decode cX7_count 28 = .ok (.iload_n 1, 1) := dk_27 (dk_at dksX7_count_1 6 rfl rfl)
theorem dX7_count_29 : decode cX7_count 29 = .ok (.iconst 2, 1) := dk_5 (dk_at dksX7_count_1 7 rfl rfl)
theorem dX7_count_30 : decode cX7_count 30 = .ok (.if_icmp .ne 10, 3) := dk_160 0 10 (dk_at dksX7_count_1 8 rfl rfl)
theorem dX7_count_33 : decode cX7_count 33 = .ok (.aload_n 0, 1) := dk_42 (dk_at dksX7_count_1 11 rfl rfl)
theorem dX7_count_34 : decode cX7_count 34 = .ok (.getfield 7, 3) := dk_180 0 7 (dk_at dksX7_count_1 12 rfl rfl)
theorem dX7_count_37 : decode cX7_count 37 = .ok (.iconst 5, 1) := dk_8 (dk_at dksX7_count_1 15 rfl rfl)
theorem dX7_count_38 : decode cX7_count 38 = .ok (.iaload, 1) := dk_46 (dk_at dksX7_count_1 16 rfl rfl)
theorem dX7_count_39 : decode cX7_count 39 = .ok (.ireturn, 1) := dk_172 (dk_at dksX7_count_1 17 rfl rfl)
theorem dX7_count_40 : decode cX7_count 40 = .ok (.iload_n 1, 1) := dk_27 (dk_at dksX7_count_1 18 rfl rfl)
theorem dX7_count_41 : decode cX7_count 41 = .ok (.iconst 3, 1) := dk_6 (dk_at dksX7_count_1 19 rfl rfl)
theorem dX7_count_42 : decode cX7_count 42 = .ok (.if_icmp .ne 10, 3) := dk_160 0 10 (dk_at dksX7_count_1 20 rfl rfl)
theorem dX7_count_45 : decode cX7_count 45 = .ok (.aload_n 0, 1) := dk_42 (dk_at dksX7_count_1 23 rfl rfl)
theorem dX7_count_46 : decode cX7_count 46 = .ok (.getfield 7, 3) := dk_180 0 7 (dk_at dksX7_count_2 0 rfl rfl)
theorem dX7_count_49 : decode cX7_count 49 = .ok (.iconst 0, 1) := dk_3 (dk_at dksX7_count_2 3 rfl rfl)
theorem dX7_count_50 : decode cX7_count 50 = .ok (.iaload, 1) := dk_46 (dk_at dksX7_count_2 4 rfl rfl)
theorem dX7_count_51 : decode cX7_count 51 = .ok (.ireturn, 1) := dk_172 (dk_at dksX7_count_2 5 rfl rfl)
theorem dX7_count_52 : decode cX7_count 52 = .ok (.iload_n 1, 1) := dk_27 (dk_at dksX7_count_2 6 rfl rfl)
theorem dX7_count_53 : decode cX7_count 53 = .ok (.iconst 4, 1) := dk_7 (dk_at dksX7_count_2 7 rfl rfl)
theorem dX7_count_54 : decode cX7_count 54 = .ok (.if_icmp .ne 10, 3) := dk_160 0 10 (dk_at dksX7_count_2 8 rfl rfl)
theorem dX7_count_57 : decode cX7_count 57 = .ok (.aload_n 0, 1) := dk_42 (dk_at dksX7_count_2 11 rfl rfl)
theorem dX7_count_58 : decode cX7_count 58 = .ok (.getfield 7, 3) := dk_180 0 7 (dk_at dksX7_count_2 12 rfl rfl)
theorem dX7_count_61 : decode cX7_count 61 = .ok (.iconst 1, 1) := dk_4 (dk_at dksX7_count_2 15 rfl rfl)
theorem dX7_count_62 : decode cX7_count 62 = .ok (.iaload, 1) := dk_46 (dk_at dksX7_count_2 16 rfl rfl)
theorem dX7_count_63 : decode cX7_count 63 = .ok (.ireturn, 1) := dk_172 (dk_at dksX7_count_2 17 rfl rfl)
theorem dX7_count_64 : decode cX7_count 64 = .ok (.iload_n 1, 1) := dk_27 (dk_at dksX7_count_2 18 rfl rfl)
theorem dX7_count_65 : decode cX7_count 65 = .ok (.iconst 5, 1) := dk_8 (dk_at dksX7_count_2 19 rfl rfl)
theorem dX7_count_66 : decode cX7_count 66 = .ok (.bipush 7, 2) := dk_16 7 (dk_at dksX7_count_2 20 rfl rfl)
theorem dX7_count_68 : decode cX7_count 68 = .ok (.invokestatic 48, 3) := dk_184 0 48 (dk_at dksX7_count_3 0 rfl rfl)
theorem dX7_count_71 : decode cX7_count 71 = .ok (.ifCond .eq 15, 3) := dk_153 0 15 (dk_at dksX7_count_3 3 rfl rfl)
theorem dX7_count_74 : decode cX7_count 74 = .ok (.aload_n 0, 1) := dk_42 (dk_at dksX7_count_3 6 rfl rfl)
theorem dX7_count_75 : decode cX7_count 75 = .ok (.getfield 7, 3) := dk_180 0 7 (dk_at dksX7_count_3 7 rfl rfl)
theorem dX7_count_78 : decode cX7_count 78 = .ok (.bipush 6, 2) := dk_16 6 (dk_at dksX7_count_3 10 rfl rfl)
theorem dX7_count_80 : decode cX7_count 80 = .ok (.iload_n 1, 1) := dk_27 (dk_at dksX7_count_3 12 rfl rfl)
theorem dX7_count_81 : decode cX7_count 81 = .ok (.iadd, 1) := dk_96 (dk_at dksX7_count_3 13 rfl rfl)
theorem dX7_count_82 : decode cX7_count 82 = .ok (.iconst 5, 1) := dk_8 (dk_at dksX7_count_3 14 rfl rfl)
theorem dX7_count_83 : decode cX7_count 83 = .ok (.isub, 1) := dk_100 (dk_at dksX7_count_3 15 rfl rfl)
theorem dX7_count_84 : decode cX7_count 84 = .ok (.iaload, 1) := dk_46 (dk_at dksX7_count_3 16 rfl rfl)
theorem dX7_count_85 : decode cX7_count 85 = .ok (.ireturn, 1) := dk_172 (dk_at dksX7_count_3 17 rfl rfl)
theorem dX7_count_86 : decode cX7_count 86 = .ok (.iload_n 1, 1) := dk_27 (dk_at dksX7_count_3 18 rfl rfl)
theorem dX7_count_87 : decode cX7_count 87 = .ok (.bipush 9, 2) := dk_16 9 (dk_at dksX7_count_3 19 rfl rfl)
theorem dX7_count_89 : decode cX7_count 89 = .ok (.if_icmp .ne 8, 3) := dk_160 0 8 (dk_at dksX7_count_3 21 rfl rfl)
theorem dX7_count_92 : decode cX7_count 92 = .ok (.aload_n 0, 1) := dk_42 (dk_at dksX7_count_4 0 rfl rfl)
theorem dX7_count_93 : decode cX7_count 93 = .ok (.invokevirtual 398, 3) := dk_182 1 142 (dk_at dksX7_count_4 1 rfl rfl)
theorem dX7_count_96 : decode cX7_count 96 = .ok (.ireturn, 1) := dk_172 (dk_at dksX7_count_4 4 rfl rfl)
theorem dX7_count_97 : decode cX7_count 97 = .ok (.iload_n 1, 1) := dk_27 (dk_at dksX7_count_4 5 rfl rfl)
theorem dX7_count_98 : decode cX7_count 98 = .ok (.bipush 10, 2) := dk_16 10 (dk_at dksX7_count_4 6 rfl rfl)
theorem dX7_count_100 : decode cX7_count 100 = .ok (.if_icmp .ne 11, 3) := dk_160 0 11 (dk_at dksX7_count_4 8 rfl rfl)
theorem dX7_count_103 : decode cX7_count 103 = .ok (.aload_n 0, 1) := dk_42 (dk_at dksX7_count_4 11 rfl rfl)
theorem dX7_count_104 : decode cX7_count 104 = .ok (.getfield 7, 3) := dk_180 0 7 (dk_at dksX7_count_4 12 rfl rfl)
theorem dX7_count_107 : decode cX7_count 107 = .ok (.bipush 9, 2) := dk_16 9 (dk_at dksX7_count_4 15 rfl rfl)
theorem dX7_count_109 : decode cX7_count 109 = .ok (.iaload, 1) := dk_46 (dk_at dksX7_count_4 17 rfl rfl)
theorem dX7_count_110 : decode cX7_count 110 = .ok (.ireturn, 1) := dk_172 (dk_at dksX7_count_4 18 rfl rfl)
theorem dX7_count_111 : decode cX7_count 111 = .ok (.iload_n 1, 1) := dk_27 (dk_at dksX7_count_4 19 rfl rfl)
theorem dX7_count_112 : decode cX7_count 112 = .ok (.bipush 11, 2) := dk_16 11 (dk_at dksX7_count_4 20 rfl rfl)
theorem dX7_count_114 : decode cX7_count 114 = .ok (.if_icmp .ne 8, 3) := dk_160 0 8 (dk_at dksX7_count_5 0 rfl rfl)
theorem dX7_count_117 : decode cX7_count 117 = .ok (.aload_n 0, 1) := dk_42 (dk_at dksX7_count_5 3 rfl rfl)
theorem dX7_count_118 : decode cX7_count 118 = .ok (.getfield 212, 3) := dk_180 0 212 (dk_at dksX7_count_5 4 rfl rfl)
theorem dX7_count_121 : decode cX7_count 121 = .ok (.ireturn, 1) := dk_172 (dk_at dksX7_count_5 7 rfl rfl)
theorem dX7_count_122 : decode cX7_count 122 = .ok (.iconst 0, 1) := dk_3 (dk_at dksX7_count_5 8 rfl rfl)
theorem dX7_count_123 : decode cX7_count 123 = .ok (.istore_n 2, 1) := dk_61 (dk_at dksX7_count_5 9 rfl rfl)
theorem dX7_count_124 : decode cX7_count 124 = .ok (.iconst 0, 1) := dk_3 (dk_at dksX7_count_5 10 rfl rfl)
theorem dX7_count_125 : decode cX7_count 125 = .ok (.istore_n 3, 1) := dk_62 (dk_at dksX7_count_5 11 rfl rfl)
theorem dX7_count_126 : decode cX7_count 126 = .ok (.iload_n 3, 1) := dk_29 (dk_at dksX7_count_5 12 rfl rfl)
theorem dX7_count_127 : decode cX7_count 127 = .ok (.aload_n 0, 1) := dk_42 (dk_at dksX7_count_5 13 rfl rfl)
theorem dX7_count_128 : decode cX7_count 128 = .ok (.getfield 7, 3) := dk_180 0 7 (dk_at dksX7_count_5 14 rfl rfl)
theorem dX7_count_131 : decode cX7_count 131 = .ok (.iconst 3, 1) := dk_6 (dk_at dksX7_count_5 17 rfl rfl)
theorem dX7_count_132 : decode cX7_count 132 = .ok (.iaload, 1) := dk_46 (dk_at dksX7_count_5 18 rfl rfl)
theorem dX7_count_133 : decode cX7_count 133 = .ok (.if_icmp .ge 17, 3) := dk_162 0 17 (dk_at dksX7_count_5 19 rfl rfl)
theorem dX7_count_136 : decode cX7_count 136 = .ok (.iload_n 2, 1) := dk_28 (dk_at dksX7_count_5 22 rfl rfl)
theorem dX7_count_137 : decode cX7_count 137 = .ok (.aload_n 0, 1) := dk_42 (dk_at dksX7_count_5 23 rfl rfl)
theorem dX7_count_138 : decode cX7_count 138 = .ok (.iload_n 3, 1) := dk_29 (dk_at dksX7_count_6 0 rfl rfl)
theorem dX7_count_139 : decode cX7_count 139 = .ok (.invokevirtual 282, 3) := dk_182 1 26 (dk_at dksX7_count_6 1 rfl rfl)
theorem dX7_count_142 : decode cX7_count 142 = .ok (.iadd, 1) := dk_96 (dk_at dksX7_count_6 4 rfl rfl)
theorem dX7_count_143 : decode cX7_count 143 = .ok (.istore_n 2, 1) := dk_61 (dk_at dksX7_count_6 5 rfl rfl)
theorem dX7_count_144 : decode cX7_count 144 = .ok (.iinc 3 1, 3) := dk_132 3 1 (dk_at dksX7_count_6 6 rfl rfl)
theorem dX7_count_147 : decode cX7_count 147 = .ok (.goto (-21), 3) := dk_167 255 235 (dk_at dksX7_count_6 9 rfl rfl)
theorem dX7_count_150 : decode cX7_count 150 = .ok (.iload_n 1, 1) := dk_27 (dk_at dksX7_count_6 12 rfl rfl)
theorem dX7_count_151 : decode cX7_count 151 = .ok (.bipush 8, 2) := dk_16 8 (dk_at dksX7_count_6 13 rfl rfl)
theorem dX7_count_153 : decode cX7_count 153 = .ok (.if_icmp .ne 7, 3) := dk_160 0 7 (dk_at dksX7_count_6 15 rfl rfl)
theorem dX7_count_156 : decode cX7_count 156 = .ok (.iload_n 2, 1) := dk_28 (dk_at dksX7_count_6 18 rfl rfl)
theorem dX7_count_157 : decode cX7_count 157 = .ok (.goto 4, 3) := dk_167 0 4 (dk_at dksX7_count_6 19 rfl rfl)
theorem dX7_count_160 : decode cX7_count 160 = .ok (.iconst (-1), 1) := dk_2 (dk_at dksX7_count_6 22 rfl rfl)
theorem dX7_count_161 : decode cX7_count 161 = .ok (.ireturn, 1) := dk_172 (dk_at dksX7_count_6 23 rfl rfl)
theorem q143 : (Jvm.Cond.initialized "LateInksModel") ∈ lw_all := lw_g (lw_at lw_m1 11 rfl) rfl
theorem q1591 : (Jvm.Cond.selects "LateInksModel" ({ cls := "java/lang/Object", name := "getClass", desc := "()Ljava/lang/Class;" } : Jvm.MethodName) ({ cls := "java/lang/Object", name := "getClass", desc := "()Ljava/lang/Class;" } : Jvm.MethodName)) ∈ lw_all := lw_g (lw_at lw_m7 19 rfl) rfl
theorem q2095 : (Jvm.Cond.instantiable "LateInksModel" (24 : Nat)) ∈ lw_all := lw_g (lw_at lw_m9 43 rfl) rfl
theorem q2097 : (Jvm.Cond.instanceMethod ({ cls := "LateInksModel", name := "<init>", desc := "()V" } : Jvm.MethodName)) ∈ lw_all := lw_g (lw_at lw_m9 45 rfl) rfl
theorem q2098 : (Jvm.Cond.code ({ cls := "LateInksModel", name := "<init>", desc := "()V" } : Jvm.MethodName) prog_20_method_1_code (2 : Nat) (Option.none : Option Jvm.ClassFile.FieldType)) ∈ lw_all := lw_g (lw_at lw_m9 46 rfl) rfl
theorem q2099 : (Jvm.Cond.methodLink "LateInksModel" (1 : Nat) ({ cls := "java/lang/Object", name := "<init>", desc := "()V" } : Jvm.MethodName)) ∈ lw_all := lw_g (lw_at lw_m9 47 rfl) rfl
theorem q2100 : (Jvm.Cond.fieldLink "LateInksModel" (45 : Nat) "LateInksModel" "thrown" "I") ∈ lw_all := lw_g (lw_at lw_m9 48 rfl) rfl
theorem q2101 : (Jvm.Cond.fieldLink "LateInksModel" (7 : Nat) "LateInksModel" "m" "[I") ∈ lw_all := lw_g (lw_at lw_m9 49 rfl) rfl
theorem q2102 : (Jvm.Cond.fieldLink "LateInksModel" (13 : Nat) "LateInksModel" "kept" "[I") ∈ lw_all := lw_g (lw_at lw_m9 50 rfl) rfl
theorem q2103 : (Jvm.Cond.fieldLink "LateInksModel" (404 : Nat) "LateInksModel" "hasImage" "Z") ∈ lw_all := lw_g (lw_at lw_m9 51 rfl) rfl
theorem q2104 : (Jvm.Cond.fieldLink "LateInksModel" (16 : Nat) "LateInksModel" "aside" "[I") ∈ lw_all := lw_g (lw_at lw_m9 52 rfl) rfl
theorem q2105 : (Jvm.Cond.fieldLink "LateInksModel" (19 : Nat) "LateInksModel" "acts" "[I") ∈ lw_all := lw_g (lw_at lw_m9 53 rfl) rfl
theorem q2106 : (Jvm.Cond.fieldLink "LateInksModel" (212 : Nat) "LateInksModel" "acted" "I") ∈ lw_all := lw_g (lw_at lw_m9 54 rfl) rfl
theorem q2107 : (Jvm.Cond.fieldLink "LateInksModel" (22 : Nat) "LateInksModel" "tape" "[I") ∈ lw_all := lw_g (lw_at lw_m9 55 rfl) rfl
theorem q2108 : (Jvm.Cond.fieldLink "LateInksModel" (70 : Nat) "LateInksModel" "taped" "I") ∈ lw_all := lw_g (lw_at lw_m9 56 rfl) rfl
theorem q2109 : (Jvm.Cond.fieldLink "LateInksModel" (73 : Nat) "LateInksModel" "base" "I") ∈ lw_all := lw_g (lw_at lw_m9 57 rfl) rfl
theorem q2110 : (Jvm.Cond.fieldLink "LateInksModel" (79 : Nat) "LateInksModel" "end" "I") ∈ lw_all := lw_g (lw_at lw_m9 58 rfl) rfl
theorem q2111 : (Jvm.Cond.fieldLink "LateInksModel" (76 : Nat) "LateInksModel" "at" "I") ∈ lw_all := lw_g (lw_at lw_m9 59 rfl) rfl
theorem q2112 : (Jvm.Cond.fieldLink "LateInksModel" (25 : Nat) "LateInksModel" "fault" "I") ∈ lw_all := lw_g (lw_at lw_m9 60 rfl) rfl
theorem q2113 : (Jvm.Cond.fieldLink "LateInksModel" (186 : Nat) "LateInksModel" "deep" "I") ∈ lw_all := lw_g (lw_at lw_m9 61 rfl) rfl
theorem q2114 : (Jvm.Cond.fieldLink "LateInksModel" (29 : Nat) "LateInksModel" "fact" "[I") ∈ lw_all := lw_g (lw_at lw_m9 62 rfl) rfl
theorem q2115 : (Jvm.Cond.fieldLink "LateInksModel" (224 : Nat) "LateInksModel" "isLeaning" "Z") ∈ lw_all := lw_g (lw_at lw_m9 63 rfl) rfl
theorem q2116 : (Jvm.Cond.fieldLink "LateInksModel" (230 : Nat) "LateInksModel" "isBarred" "Z") ∈ lw_all := lw_g (lw_at lw_m9 64 rfl) rfl
theorem q2117 : (Jvm.Cond.fieldLink "LateInksModel" (260 : Nat) "LateInksModel" "ripens" "I") ∈ lw_all := lw_g (lw_at lw_m9 65 rfl) rfl
theorem q2118 : (Jvm.Cond.fieldLink "LateInksModel" (263 : Nat) "LateInksModel" "costs" "I") ∈ lw_all := lw_g (lw_at lw_m9 66 rfl) rfl
theorem q2119 : (Jvm.Cond.fieldLink "LateInksModel" (288 : Nat) "LateInksModel" "sprayed" "I") ∈ lw_all := lw_g (lw_at lw_m9 67 rfl) rfl
theorem q2120 : (Jvm.Cond.fieldLink "LateInksModel" (32 : Nat) "LateInksModel" "fits" "[Z") ∈ lw_all := lw_g (lw_at lw_m9 68 rfl) rfl
theorem q2121 : (Jvm.Cond.fieldLink "LateInksModel" (36 : Nat) "LateInksModel" "ups" "[I") ∈ lw_all := lw_g (lw_at lw_m9 69 rfl) rfl
theorem q2122 : (Jvm.Cond.fieldLink "LateInksModel" (39 : Nat) "LateInksModel" "wide" "[I") ∈ lw_all := lw_g (lw_at lw_m9 70 rfl) rfl
theorem q2123 : (Jvm.Cond.fieldLink "LateInksModel" (42 : Nat) "LateInksModel" "prices" "[I") ∈ lw_all := lw_g (lw_at lw_m9 71 rfl) rfl
theorem q2124 : (Jvm.Cond.lays "LateInksModel" "LateInksModel" "thrown" "I") ∈ lw_all := lw_g (lw_at lw_m9 72 rfl) rfl
theorem q2125 : (Jvm.Cond.soleField "LateInksModel" "thrown") ∈ lw_all := lw_g (lw_at lw_m9 73 rfl) rfl
theorem q2126 : (Jvm.Cond.laysFinal "LateInksModel" "LateInksModel" "m" "[I") ∈ lw_all := lw_g (lw_at lw_m9 74 rfl) rfl
theorem q2127 : (Jvm.Cond.soleField "LateInksModel" "m") ∈ lw_all := lw_g (lw_at lw_m9 75 rfl) rfl
theorem q2128 : (Jvm.Cond.laysFinal "LateInksModel" "LateInksModel" "kept" "[I") ∈ lw_all := lw_g (lw_at lw_m9 76 rfl) rfl
theorem q2129 : (Jvm.Cond.soleField "LateInksModel" "kept") ∈ lw_all := lw_g (lw_at lw_m9 77 rfl) rfl
theorem q2130 : (Jvm.Cond.lays "LateInksModel" "LateInksModel" "hasImage" "Z") ∈ lw_all := lw_g (lw_at lw_m9 78 rfl) rfl
theorem q2131 : (Jvm.Cond.soleField "LateInksModel" "hasImage") ∈ lw_all := lw_g (lw_at lw_m9 79 rfl) rfl
theorem q2132 : (Jvm.Cond.laysFinal "LateInksModel" "LateInksModel" "aside" "[I") ∈ lw_all := lw_g (lw_at lw_m9 80 rfl) rfl
theorem q2133 : (Jvm.Cond.soleField "LateInksModel" "aside") ∈ lw_all := lw_g (lw_at lw_m9 81 rfl) rfl
theorem q2134 : (Jvm.Cond.laysFinal "LateInksModel" "LateInksModel" "acts" "[I") ∈ lw_all := lw_g (lw_at lw_m9 82 rfl) rfl
theorem q2135 : (Jvm.Cond.soleField "LateInksModel" "acts") ∈ lw_all := lw_g (lw_at lw_m9 83 rfl) rfl
theorem q2136 : (Jvm.Cond.lays "LateInksModel" "LateInksModel" "acted" "I") ∈ lw_all := lw_g (lw_at lw_m9 84 rfl) rfl
theorem q2137 : (Jvm.Cond.soleField "LateInksModel" "acted") ∈ lw_all := lw_g (lw_at lw_m9 85 rfl) rfl
theorem q2138 : (Jvm.Cond.laysFinal "LateInksModel" "LateInksModel" "tape" "[I") ∈ lw_all := lw_g (lw_at lw_m9 86 rfl) rfl
theorem q2139 : (Jvm.Cond.soleField "LateInksModel" "tape") ∈ lw_all := lw_g (lw_at lw_m9 87 rfl) rfl
theorem q2140 : (Jvm.Cond.lays "LateInksModel" "LateInksModel" "taped" "I") ∈ lw_all := lw_g (lw_at lw_m9 88 rfl) rfl
theorem q2141 : (Jvm.Cond.soleField "LateInksModel" "taped") ∈ lw_all := lw_g (lw_at lw_m9 89 rfl) rfl
theorem q2142 : (Jvm.Cond.lays "LateInksModel" "LateInksModel" "base" "I") ∈ lw_all := lw_g (lw_at lw_m9 90 rfl) rfl
theorem q2143 : (Jvm.Cond.soleField "LateInksModel" "base") ∈ lw_all := lw_g (lw_at lw_m9 91 rfl) rfl
theorem q2144 : (Jvm.Cond.lays "LateInksModel" "LateInksModel" "end" "I") ∈ lw_all := lw_g (lw_at lw_m9 92 rfl) rfl
theorem q2145 : (Jvm.Cond.soleField "LateInksModel" "end") ∈ lw_all := lw_g (lw_at lw_m9 93 rfl) rfl
theorem q2146 : (Jvm.Cond.lays "LateInksModel" "LateInksModel" "at" "I") ∈ lw_all := lw_g (lw_at lw_m9 94 rfl) rfl
theorem q2147 : (Jvm.Cond.soleField "LateInksModel" "at") ∈ lw_all := lw_g (lw_at lw_m9 95 rfl) rfl
theorem q2148 : (Jvm.Cond.lays "LateInksModel" "LateInksModel" "fault" "I") ∈ lw_all := lw_g (lw_at lw_m9 96 rfl) rfl
theorem q2149 : (Jvm.Cond.soleField "LateInksModel" "fault") ∈ lw_all := lw_g (lw_at lw_m9 97 rfl) rfl
theorem q2150 : (Jvm.Cond.lays "LateInksModel" "LateInksModel" "deep" "I") ∈ lw_all := lw_g (lw_at lw_m9 98 rfl) rfl
theorem q2151 : (Jvm.Cond.soleField "LateInksModel" "deep") ∈ lw_all := lw_g (lw_at lw_m9 99 rfl) rfl
theorem q2152 : (Jvm.Cond.laysFinal "LateInksModel" "LateInksModel" "fact" "[I") ∈ lw_all := lw_g (lw_at lw_m9 100 rfl) rfl
theorem q2153 : (Jvm.Cond.soleField "LateInksModel" "fact") ∈ lw_all := lw_g (lw_at lw_m9 101 rfl) rfl
theorem q2154 : (Jvm.Cond.lays "LateInksModel" "LateInksModel" "isLeaning" "Z") ∈ lw_all := lw_g (lw_at lw_m9 102 rfl) rfl
theorem q2155 : (Jvm.Cond.soleField "LateInksModel" "isLeaning") ∈ lw_all := lw_g (lw_at lw_m9 103 rfl) rfl
theorem q2156 : (Jvm.Cond.lays "LateInksModel" "LateInksModel" "isBarred" "Z") ∈ lw_all := lw_g (lw_at lw_m9 104 rfl) rfl
theorem q2157 : (Jvm.Cond.soleField "LateInksModel" "isBarred") ∈ lw_all := lw_g (lw_at lw_m9 105 rfl) rfl
theorem q2158 : (Jvm.Cond.lays "LateInksModel" "LateInksModel" "ripens" "I") ∈ lw_all := lw_g (lw_at lw_m9 106 rfl) rfl
theorem q2159 : (Jvm.Cond.soleField "LateInksModel" "ripens") ∈ lw_all := lw_g (lw_at lw_m9 107 rfl) rfl
theorem q2160 : (Jvm.Cond.lays "LateInksModel" "LateInksModel" "costs" "I") ∈ lw_all := lw_g (lw_at lw_m9 108 rfl) rfl
theorem q2161 : (Jvm.Cond.soleField "LateInksModel" "costs") ∈ lw_all := lw_g (lw_at lw_m9 109 rfl) rfl
theorem q2162 : (Jvm.Cond.lays "LateInksModel" "LateInksModel" "sprayed" "I") ∈ lw_all := lw_g (lw_at lw_m9 110 rfl) rfl
theorem q2163 : (Jvm.Cond.soleField "LateInksModel" "sprayed") ∈ lw_all := lw_g (lw_at lw_m9 111 rfl) rfl
theorem q2164 : (Jvm.Cond.laysFinal "LateInksModel" "LateInksModel" "fits" "[Z") ∈ lw_all := lw_g (lw_at lw_m9 112 rfl) rfl
theorem q2165 : (Jvm.Cond.soleField "LateInksModel" "fits") ∈ lw_all := lw_g (lw_at lw_m9 113 rfl) rfl
theorem q2166 : (Jvm.Cond.laysFinal "LateInksModel" "LateInksModel" "ups" "[I") ∈ lw_all := lw_g (lw_at lw_m9 114 rfl) rfl
theorem q2167 : (Jvm.Cond.soleField "LateInksModel" "ups") ∈ lw_all := lw_g (lw_at lw_m9 115 rfl) rfl
theorem q2168 : (Jvm.Cond.laysFinal "LateInksModel" "LateInksModel" "wide" "[I") ∈ lw_all := lw_g (lw_at lw_m9 116 rfl) rfl
theorem q2169 : (Jvm.Cond.soleField "LateInksModel" "wide") ∈ lw_all := lw_g (lw_at lw_m9 117 rfl) rfl
theorem q2170 : (Jvm.Cond.laysFinal "LateInksModel" "LateInksModel" "prices" "[I") ∈ lw_all := lw_g (lw_at lw_m9 118 rfl) rfl
theorem q2171 : (Jvm.Cond.soleField "LateInksModel" "prices") ∈ lw_all := lw_g (lw_at lw_m9 119 rfl) rfl
theorem q2172 : (Jvm.Cond.superclass "LateInksModel" "java/lang/Object") ∈ lw_all := lw_g (lw_at lw_m9 120 rfl) rfl
theorem q2174 : (Jvm.Cond.instanceMethod ({ cls := "LateInksModel", name := "thrown", desc := "()I" } : Jvm.MethodName)) ∈ lw_all := lw_g (lw_at lw_m9 122 rfl) rfl
theorem q2175 : (Jvm.Cond.selects "LateInksModel" ({ cls := "LateInksModel", name := "thrown", desc := "()I" } : Jvm.MethodName) ({ cls := "LateInksModel", name := "thrown", desc := "()I" } : Jvm.MethodName)) ∈ lw_all := lw_g (lw_at lw_m9 123 rfl) rfl
theorem q2176 : (Jvm.Cond.code ({ cls := "LateInksModel", name := "thrown", desc := "()I" } : Jvm.MethodName) prog_20_method_2_code (1 : Nat) (Option.some Jvm.ClassFile.FieldType.int)) ∈ lw_all := lw_g (lw_at lw_m9 124 rfl) rfl
theorem q2178 : (Jvm.Cond.instanceMethod ({ cls := "LateInksModel", name := "feed", desc := "(IIIII)I" } : Jvm.MethodName)) ∈ lw_all := lw_g (lw_at lw_m9 126 rfl) rfl
theorem q2179 : (Jvm.Cond.selects "LateInksModel" ({ cls := "LateInksModel", name := "feed", desc := "(IIIII)I" } : Jvm.MethodName) ({ cls := "LateInksModel", name := "feed", desc := "(IIIII)I" } : Jvm.MethodName)) ∈ lw_all := lw_g (lw_at lw_m9 127 rfl) rfl
theorem q2180 : (Jvm.Cond.code ({ cls := "LateInksModel", name := "feed", desc := "(IIIII)I" } : Jvm.MethodName) prog_20_method_19_code (8 : Nat) (Option.some Jvm.ClassFile.FieldType.int)) ∈ lw_all := lw_g (lw_at lw_m9 128 rfl) rfl
theorem q2182 : (Jvm.Cond.instanceMethod ({ cls := "LateInksModel", name := "end", desc := "(I)Z" } : Jvm.MethodName)) ∈ lw_all := lw_g (lw_at lw_m9 130 rfl) rfl
theorem q2183 : (Jvm.Cond.selects "LateInksModel" ({ cls := "LateInksModel", name := "end", desc := "(I)Z" } : Jvm.MethodName) ({ cls := "LateInksModel", name := "end", desc := "(I)Z" } : Jvm.MethodName)) ∈ lw_all := lw_g (lw_at lw_m9 131 rfl) rfl
theorem q2184 : (Jvm.Cond.code ({ cls := "LateInksModel", name := "end", desc := "(I)Z" } : Jvm.MethodName) prog_20_method_20_code (2 : Nat) (Option.some Jvm.ClassFile.FieldType.boolean)) ∈ lw_all := lw_g (lw_at lw_m9 132 rfl) rfl
theorem q2185 : (Jvm.Cond.methodLink "LateInksModel" (48 : Nat) ({ cls := "LateInksModel", name := "isIn", desc := "(III)Z" } : Jvm.MethodName)) ∈ lw_all := lw_g (lw_at lw_m9 133 rfl) rfl
theorem q2186 : (Jvm.Cond.static ({ cls := "LateInksModel", name := "isIn", desc := "(III)Z" } : Jvm.MethodName)) ∈ lw_all := lw_g (lw_at lw_m9 134 rfl) rfl
theorem q2187 : (Jvm.Cond.code ({ cls := "LateInksModel", name := "isIn", desc := "(III)Z" } : Jvm.MethodName) prog_20_method_3_code (3 : Nat) (Option.some Jvm.ClassFile.FieldType.boolean)) ∈ lw_all := lw_g (lw_at lw_m9 135 rfl) rfl
theorem q2189 : (Jvm.Cond.instanceMethod ({ cls := "LateInksModel", name := "port", desc := "()I" } : Jvm.MethodName)) ∈ lw_all := lw_g (lw_at lw_m9 137 rfl) rfl
theorem q2190 : (Jvm.Cond.selects "LateInksModel" ({ cls := "LateInksModel", name := "port", desc := "()I" } : Jvm.MethodName) ({ cls := "LateInksModel", name := "port", desc := "()I" } : Jvm.MethodName)) ∈ lw_all := lw_g (lw_at lw_m9 138 rfl) rfl
theorem q2191 : (Jvm.Cond.code ({ cls := "LateInksModel", name := "port", desc := "()I" } : Jvm.MethodName) prog_20_method_42_code (2 : Nat) (Option.some Jvm.ClassFile.FieldType.int)) ∈ lw_all := lw_g (lw_at lw_m9 139 rfl) rfl
theorem q2192 : (Jvm.Cond.methodLink "LateInksModel" (199 : Nat) ({ cls := "LateInksModel", name := "putsAside", desc := "()V" } : Jvm.MethodName)) ∈ lw_all := lw_g (lw_at lw_m9 140 rfl) rfl
theorem q2193 : (Jvm.Cond.privateMethod ({ cls := "LateInksModel", name := "putsAside", desc := "()V" } : Jvm.MethodName)) ∈ lw_tbl := lw_at lw_m9 141 rfl
theorem q2194 : (Jvm.Cond.instanceMethod ({ cls := "LateInksModel", name := "putsAside", desc := "()V" } : Jvm.MethodName)) ∈ lw_all := lw_g (lw_at lw_m9 142 rfl) rfl
theorem q2195 : (Jvm.Cond.code ({ cls := "LateInksModel", name := "putsAside", desc := "()V" } : Jvm.MethodName) prog_20_method_40_code (2 : Nat) (Option.none : Option Jvm.ClassFile.FieldType)) ∈ lw_all := lw_g (lw_at lw_m9 143 rfl) rfl
theorem q2196 : (Jvm.Cond.methodLink "LateInksModel" (202 : Nat) ({ cls := "LateInksModel", name := "begins", desc := "()V" } : Jvm.MethodName)) ∈ lw_all := lw_g (lw_at lw_m9 144 rfl) rfl
theorem q2197 : (Jvm.Cond.privateMethod ({ cls := "LateInksModel", name := "begins", desc := "()V" } : Jvm.MethodName)) ∈ lw_tbl := lw_at lw_m9 145 rfl
theorem q2198 : (Jvm.Cond.instanceMethod ({ cls := "LateInksModel", name := "begins", desc := "()V" } : Jvm.MethodName)) ∈ lw_all := lw_g (lw_at lw_m9 146 rfl) rfl
theorem q2199 : (Jvm.Cond.code ({ cls := "LateInksModel", name := "begins", desc := "()V" } : Jvm.MethodName) prog_20_method_38_code (1 : Nat) (Option.none : Option Jvm.ClassFile.FieldType)) ∈ lw_all := lw_g (lw_at lw_m9 147 rfl) rfl
theorem q2200 : (Jvm.Cond.methodLink "LateInksModel" (205 : Nat) ({ cls := "LateInksModel", name := "read", desc := "(Z)I" } : Jvm.MethodName)) ∈ lw_all := lw_g (lw_at lw_m9 148 rfl) rfl
theorem q2201 : (Jvm.Cond.privateMethod ({ cls := "LateInksModel", name := "read", desc := "(Z)I" } : Jvm.MethodName)) ∈ lw_tbl := lw_at lw_m9 149 rfl
theorem q2202 : (Jvm.Cond.instanceMethod ({ cls := "LateInksModel", name := "read", desc := "(Z)I" } : Jvm.MethodName)) ∈ lw_all := lw_g (lw_at lw_m9 150 rfl) rfl
theorem q2203 : (Jvm.Cond.code ({ cls := "LateInksModel", name := "read", desc := "(Z)I" } : Jvm.MethodName) prog_20_method_39_code (4 : Nat) (Option.some Jvm.ClassFile.FieldType.int)) ∈ lw_all := lw_g (lw_at lw_m9 151 rfl) rfl
theorem q2204 : (Jvm.Cond.methodLink "LateInksModel" (85 : Nat) ({ cls := "LateInksModel", name := "skip", desc := "()V" } : Jvm.MethodName)) ∈ lw_all := lw_g (lw_at lw_m9 152 rfl) rfl
theorem q2205 : (Jvm.Cond.privateMethod ({ cls := "LateInksModel", name := "skip", desc := "()V" } : Jvm.MethodName)) ∈ lw_tbl := lw_at lw_m9 153 rfl
theorem q2206 : (Jvm.Cond.instanceMethod ({ cls := "LateInksModel", name := "skip", desc := "()V" } : Jvm.MethodName)) ∈ lw_all := lw_g (lw_at lw_m9 154 rfl) rfl
theorem q2207 : (Jvm.Cond.code ({ cls := "LateInksModel", name := "skip", desc := "()V" } : Jvm.MethodName) prog_20_method_22_code (1 : Nat) (Option.none : Option Jvm.ClassFile.FieldType)) ∈ lw_all := lw_g (lw_at lw_m9 155 rfl) rfl
theorem q2208 : (Jvm.Cond.methodLink "LateInksModel" (82 : Nat) ({ cls := "LateInksModel", name := "letter", desc := "(I)I" } : Jvm.MethodName)) ∈ lw_all := lw_g (lw_at lw_m9 156 rfl) rfl
theorem q2209 : (Jvm.Cond.privateMethod ({ cls := "LateInksModel", name := "letter", desc := "(I)I" } : Jvm.MethodName)) ∈ lw_tbl := lw_at lw_m9 157 rfl
theorem q2210 : (Jvm.Cond.instanceMethod ({ cls := "LateInksModel", name := "letter", desc := "(I)I" } : Jvm.MethodName)) ∈ lw_all := lw_g (lw_at lw_m9 158 rfl) rfl
theorem q2211 : (Jvm.Cond.code ({ cls := "LateInksModel", name := "letter", desc := "(I)I" } : Jvm.MethodName) prog_20_method_21_code (2 : Nat) (Option.some Jvm.ClassFile.FieldType.int)) ∈ lw_all := lw_g (lw_at lw_m9 159 rfl) rfl
theorem q2212 : (Jvm.Cond.methodLink "LateInksModel" (101 : Nat) ({ cls := "LateInksModel", name := "wrong", desc := "(I)V" } : Jvm.MethodName)) ∈ lw_all := lw_g (lw_at lw_m9 160 rfl) rfl
theorem q2213 : (Jvm.Cond.privateMethod ({ cls := "LateInksModel", name := "wrong", desc := "(I)V" } : Jvm.MethodName)) ∈ lw_tbl := lw_at lw_m9 161 rfl
theorem q2214 : (Jvm.Cond.instanceMethod ({ cls := "LateInksModel", name := "wrong", desc := "(I)V" } : Jvm.MethodName)) ∈ lw_all := lw_g (lw_at lw_m9 162 rfl) rfl
theorem q2215 : (Jvm.Cond.code ({ cls := "LateInksModel", name := "wrong", desc := "(I)V" } : Jvm.MethodName) prog_20_method_25_code (2 : Nat) (Option.none : Option Jvm.ClassFile.FieldType)) ∈ lw_all := lw_g (lw_at lw_m9 163 rfl) rfl
theorem q2216 : (Jvm.Cond.methodLink "LateInksModel" (189 : Nat) ({ cls := "LateInksModel", name := "lawLine", desc := "()V" } : Jvm.MethodName)) ∈ lw_all := lw_g (lw_at lw_m9 164 rfl) rfl
theorem q2217 : (Jvm.Cond.privateMethod ({ cls := "LateInksModel", name := "lawLine", desc := "()V" } : Jvm.MethodName)) ∈ lw_tbl := lw_at lw_m9 165 rfl
theorem q2218 : (Jvm.Cond.instanceMethod ({ cls := "LateInksModel", name := "lawLine", desc := "()V" } : Jvm.MethodName)) ∈ lw_all := lw_g (lw_at lw_m9 166 rfl) rfl
theorem q2219 : (Jvm.Cond.code ({ cls := "LateInksModel", name := "lawLine", desc := "()V" } : Jvm.MethodName) prog_20_method_49_code (4 : Nat) (Option.none : Option Jvm.ClassFile.FieldType)) ∈ lw_all := lw_g (lw_at lw_m9 167 rfl) rfl
theorem q2220 : (Jvm.Cond.stringRef "LateInksModel" (215 : Nat) "ripe") ∈ lw_tbl := lw_at lw_m9 168 rfl
theorem q2221 : (Jvm.Cond.methodLink "LateInksModel" (105 : Nat) ({ cls := "LateInksModel", name := "has", desc := "(Ljava/lang/String;)Z" } : Jvm.MethodName)) ∈ lw_all := lw_g (lw_at lw_m9 169 rfl) rfl
theorem q2222 : (Jvm.Cond.privateMethod ({ cls := "LateInksModel", name := "has", desc := "(Ljava/lang/String;)Z" } : Jvm.MethodName)) ∈ lw_tbl := lw_at lw_m9 170 rfl
theorem q2223 : (Jvm.Cond.instanceMethod ({ cls := "LateInksModel", name := "has", desc := "(Ljava/lang/String;)Z" } : Jvm.MethodName)) ∈ lw_all := lw_g (lw_at lw_m9 171 rfl) rfl
theorem q2224 : (Jvm.Cond.code ({ cls := "LateInksModel", name := "has", desc := "(Ljava/lang/String;)Z" } : Jvm.MethodName) prog_20_method_24_code (4 : Nat) (Option.some Jvm.ClassFile.FieldType.boolean)) ∈ lw_all := lw_g (lw_at lw_m9 172 rfl) rfl
theorem q2225 : (Jvm.Cond.methodLink "LateInksModel" (88 : Nat) ({ cls := "java/lang/String", name := "length", desc := "()I" } : Jvm.MethodName)) ∈ lw_all := lw_g (lw_at lw_m9 173 rfl) rfl
theorem q2226 : (Jvm.Cond.methodLink "LateInksModel" (94 : Nat) ({ cls := "java/lang/String", name := "charAt", desc := "(I)C" } : Jvm.MethodName)) ∈ lw_all := lw_g (lw_at lw_m9 174 rfl) rfl
theorem q2237 : (Jvm.Cond.stringRef "LateInksModel" (254 : Nat) "slow") ∈ lw_tbl := lw_at lw_m9 185 rfl
theorem q2238 : (Jvm.Cond.stringRef "LateInksModel" (256 : Nat) "cost") ∈ lw_tbl := lw_at lw_m9 186 rfl
theorem q2239 : (Jvm.Cond.methodLink "LateInksModel" (109 : Nat) ({ cls := "LateInksModel", name := "figures", desc := "(II)I" } : Jvm.MethodName)) ∈ lw_all := lw_g (lw_at lw_m9 187 rfl) rfl
theorem q2240 : (Jvm.Cond.privateMethod ({ cls := "LateInksModel", name := "figures", desc := "(II)I" } : Jvm.MethodName)) ∈ lw_tbl := lw_at lw_m9 188 rfl
theorem q2241 : (Jvm.Cond.instanceMethod ({ cls := "LateInksModel", name := "figures", desc := "(II)I" } : Jvm.MethodName)) ∈ lw_all := lw_g (lw_at lw_m9 189 rfl) rfl
theorem q2242 : (Jvm.Cond.code ({ cls := "LateInksModel", name := "figures", desc := "(II)I" } : Jvm.MethodName) prog_20_method_27_code (5 : Nat) (Option.some Jvm.ClassFile.FieldType.int)) ∈ lw_all := lw_g (lw_at lw_m9 190 rfl) rfl
theorem q2243 : (Jvm.Cond.methodLink "LateInksModel" (98 : Nat) ({ cls := "LateInksModel", name := "here", desc := "()I" } : Jvm.MethodName)) ∈ lw_all := lw_g (lw_at lw_m9 191 rfl) rfl
theorem q2244 : (Jvm.Cond.privateMethod ({ cls := "LateInksModel", name := "here", desc := "()I" } : Jvm.MethodName)) ∈ lw_tbl := lw_at lw_m9 192 rfl
theorem q2245 : (Jvm.Cond.instanceMethod ({ cls := "LateInksModel", name := "here", desc := "()I" } : Jvm.MethodName)) ∈ lw_all := lw_g (lw_at lw_m9 193 rfl) rfl
theorem q2246 : (Jvm.Cond.code ({ cls := "LateInksModel", name := "here", desc := "()I" } : Jvm.MethodName) prog_20_method_26_code (1 : Nat) (Option.some Jvm.ClassFile.FieldType.int)) ∈ lw_all := lw_g (lw_at lw_m9 194 rfl) rfl
theorem q2247 : (Jvm.Cond.stringRef "LateInksModel" (258 : Nat) "if") ∈ lw_tbl := lw_at lw_m9 195 rfl
theorem q2248 : (Jvm.Cond.methodLink "LateInksModel" (244 : Nat) ({ cls := "LateInksModel", name := "some", desc := "()Z" } : Jvm.MethodName)) ∈ lw_all := lw_g (lw_at lw_m9 196 rfl) rfl
theorem q2249 : (Jvm.Cond.privateMethod ({ cls := "LateInksModel", name := "some", desc := "()Z" } : Jvm.MethodName)) ∈ lw_tbl := lw_at lw_m9 197 rfl
theorem q2250 : (Jvm.Cond.instanceMethod ({ cls := "LateInksModel", name := "some", desc := "()Z" } : Jvm.MethodName)) ∈ lw_all := lw_g (lw_at lw_m9 198 rfl) rfl
theorem q2251 : (Jvm.Cond.code ({ cls := "LateInksModel", name := "some", desc := "()Z" } : Jvm.MethodName) prog_20_method_48_code (3 : Nat) (Option.some Jvm.ClassFile.FieldType.boolean)) ∈ lw_all := lw_g (lw_at lw_m9 199 rfl) rfl
theorem q2252 : (Jvm.Cond.methodLink "LateInksModel" (249 : Nat) ({ cls := "LateInksModel", name := "every", desc := "()Z" } : Jvm.MethodName)) ∈ lw_all := lw_g (lw_at lw_m9 200 rfl) rfl
theorem q2253 : (Jvm.Cond.privateMethod ({ cls := "LateInksModel", name := "every", desc := "()Z" } : Jvm.MethodName)) ∈ lw_tbl := lw_at lw_m9 201 rfl
theorem q2254 : (Jvm.Cond.instanceMethod ({ cls := "LateInksModel", name := "every", desc := "()Z" } : Jvm.MethodName)) ∈ lw_all := lw_g (lw_at lw_m9 202 rfl) rfl
theorem q2255 : (Jvm.Cond.code ({ cls := "LateInksModel", name := "every", desc := "()Z" } : Jvm.MethodName) prog_20_method_47_code (3 : Nat) (Option.some Jvm.ClassFile.FieldType.boolean)) ∈ lw_all := lw_g (lw_at lw_m9 203 rfl) rfl
theorem q2256 : (Jvm.Cond.methodLink "LateInksModel" (241 : Nat) ({ cls := "LateInksModel", name := "atom", desc := "()Z" } : Jvm.MethodName)) ∈ lw_all := lw_g (lw_at lw_m9 204 rfl) rfl
theorem q2257 : (Jvm.Cond.privateMethod ({ cls := "LateInksModel", name := "atom", desc := "()Z" } : Jvm.MethodName)) ∈ lw_tbl := lw_at lw_m9 205 rfl
theorem q2258 : (Jvm.Cond.instanceMethod ({ cls := "LateInksModel", name := "atom", desc := "()Z" } : Jvm.MethodName)) ∈ lw_all := lw_g (lw_at lw_m9 206 rfl) rfl
theorem q2259 : (Jvm.Cond.code ({ cls := "LateInksModel", name := "atom", desc := "()Z" } : Jvm.MethodName) prog_20_method_46_code (4 : Nat) (Option.some Jvm.ClassFile.FieldType.boolean)) ∈ lw_all := lw_g (lw_at lw_m9 207 rfl) rfl
theorem q2260 : (Jvm.Cond.stringRef "LateInksModel" (235 : Nat) "not") ∈ lw_tbl := lw_at lw_m9 208 rfl
theorem q2261 : (Jvm.Cond.methodLink "LateInksModel" (195 : Nat) ({ cls := "LateInksModel", name := "isSign", desc := "(I)Z" } : Jvm.MethodName)) ∈ lw_all := lw_g (lw_at lw_m9 209 rfl) rfl
theorem q2262 : (Jvm.Cond.privateMethod ({ cls := "LateInksModel", name := "isSign", desc := "(I)Z" } : Jvm.MethodName)) ∈ lw_tbl := lw_at lw_m9 210 rfl
theorem q2263 : (Jvm.Cond.instanceMethod ({ cls := "LateInksModel", name := "isSign", desc := "(I)Z" } : Jvm.MethodName)) ∈ lw_all := lw_g (lw_at lw_m9 211 rfl) rfl
theorem q2264 : (Jvm.Cond.code ({ cls := "LateInksModel", name := "isSign", desc := "(I)Z" } : Jvm.MethodName) prog_20_method_23_code (2 : Nat) (Option.some Jvm.ClassFile.FieldType.boolean)) ∈ lw_all := lw_g (lw_at lw_m9 212 rfl) rfl
theorem q2265 : (Jvm.Cond.methodLink "LateInksModel" (237 : Nat) ({ cls := "LateInksModel", name := "plain", desc := "()Z" } : Jvm.MethodName)) ∈ lw_all := lw_g (lw_at lw_m9 213 rfl) rfl
theorem q2266 : (Jvm.Cond.privateMethod ({ cls := "LateInksModel", name := "plain", desc := "()Z" } : Jvm.MethodName)) ∈ lw_tbl := lw_at lw_m9 214 rfl
theorem q2267 : (Jvm.Cond.instanceMethod ({ cls := "LateInksModel", name := "plain", desc := "()Z" } : Jvm.MethodName)) ∈ lw_all := lw_g (lw_at lw_m9 215 rfl) rfl
theorem q2268 : (Jvm.Cond.code ({ cls := "LateInksModel", name := "plain", desc := "()Z" } : Jvm.MethodName) prog_20_method_45_code (4 : Nat) (Option.some Jvm.ClassFile.FieldType.boolean)) ∈ lw_all := lw_g (lw_at lw_m9 216 rfl) rfl
theorem q2269 : (Jvm.Cond.stringRef "LateInksModel" (222 : Nat) "leaning") ∈ lw_tbl := lw_at lw_m9 217 rfl
theorem q2270 : (Jvm.Cond.stringRef "LateInksModel" (228 : Nat) "barred") ∈ lw_tbl := lw_at lw_m9 218 rfl
theorem q2271 : (Jvm.Cond.methodLink "LateInksModel" (233 : Nat) ({ cls := "LateInksModel", name := "sum", desc := "()I" } : Jvm.MethodName)) ∈ lw_all := lw_g (lw_at lw_m9 219 rfl) rfl
theorem q2272 : (Jvm.Cond.privateMethod ({ cls := "LateInksModel", name := "sum", desc := "()I" } : Jvm.MethodName)) ∈ lw_tbl := lw_at lw_m9 220 rfl
theorem q2273 : (Jvm.Cond.instanceMethod ({ cls := "LateInksModel", name := "sum", desc := "()I" } : Jvm.MethodName)) ∈ lw_all := lw_g (lw_at lw_m9 221 rfl) rfl
theorem q2274 : (Jvm.Cond.code ({ cls := "LateInksModel", name := "sum", desc := "()I" } : Jvm.MethodName) prog_20_method_44_code (2 : Nat) (Option.some Jvm.ClassFile.FieldType.int)) ∈ lw_all := lw_g (lw_at lw_m9 222 rfl) rfl
theorem q2275 : (Jvm.Cond.methodLink "LateInksModel" (219 : Nat) ({ cls := "LateInksModel", name := "part", desc := "()I" } : Jvm.MethodName)) ∈ lw_all := lw_g (lw_at lw_m9 223 rfl) rfl
theorem q2276 : (Jvm.Cond.privateMethod ({ cls := "LateInksModel", name := "part", desc := "()I" } : Jvm.MethodName)) ∈ lw_tbl := lw_at lw_m9 224 rfl
theorem q2277 : (Jvm.Cond.instanceMethod ({ cls := "LateInksModel", name := "part", desc := "()I" } : Jvm.MethodName)) ∈ lw_all := lw_g (lw_at lw_m9 225 rfl) rfl
theorem q2278 : (Jvm.Cond.code ({ cls := "LateInksModel", name := "part", desc := "()I" } : Jvm.MethodName) prog_20_method_43_code (2 : Nat) (Option.some Jvm.ClassFile.FieldType.int)) ∈ lw_all := lw_g (lw_at lw_m9 226 rfl) rfl
theorem q2279 : (Jvm.Cond.stringRef "LateInksModel" (167 : Nat) "deed") ∈ lw_tbl := lw_at lw_m9 227 rfl
theorem q2280 : (Jvm.Cond.stringRef "LateInksModel" (126 : Nat) "ink") ∈ lw_tbl := lw_at lw_m9 228 rfl
theorem q2281 : (Jvm.Cond.stringRef "LateInksModel" (135 : Nat) "sum") ∈ lw_tbl := lw_at lw_m9 229 rfl
theorem q2282 : (Jvm.Cond.stringRef "LateInksModel" (217 : Nat) "season") ∈ lw_tbl := lw_at lw_m9 230 rfl
theorem q2283 : (Jvm.Cond.stringRef "LateInksModel" (172 : Nat) "damp") ∈ lw_tbl := lw_at lw_m9 231 rfl
theorem q2284 : (Jvm.Cond.stringRef "LateInksModel" (177 : Nat) "salt") ∈ lw_tbl := lw_at lw_m9 232 rfl
theorem q2285 : (Jvm.Cond.stringRef "LateInksModel" (247 : Nat) "and") ∈ lw_tbl := lw_at lw_m9 233 rfl
theorem q2286 : (Jvm.Cond.stringRef "LateInksModel" (252 : Nat) "or") ∈ lw_tbl := lw_at lw_m9 234 rfl
theorem q2287 : (Jvm.Cond.methodLink "LateInksModel" (192 : Nat) ({ cls := "LateInksModel", name := "portLine", desc := "()V" } : Jvm.MethodName)) ∈ lw_all := lw_g (lw_at lw_m9 235 rfl) rfl
theorem q2288 : (Jvm.Cond.privateMethod ({ cls := "LateInksModel", name := "portLine", desc := "()V" } : Jvm.MethodName)) ∈ lw_tbl := lw_at lw_m9 236 rfl
theorem q2289 : (Jvm.Cond.instanceMethod ({ cls := "LateInksModel", name := "portLine", desc := "()V" } : Jvm.MethodName)) ∈ lw_all := lw_g (lw_at lw_m9 237 rfl) rfl
theorem q2290 : (Jvm.Cond.code ({ cls := "LateInksModel", name := "portLine", desc := "()V" } : Jvm.MethodName) prog_20_method_37_code (2 : Nat) (Option.none : Option Jvm.ClassFile.FieldType)) ∈ lw_all := lw_g (lw_at lw_m9 238 rfl) rfl
theorem q2291 : (Jvm.Cond.stringRef "LateInksModel" (159 : Nat) "party") ∈ lw_tbl := lw_at lw_m9 239 rfl
theorem q2292 : (Jvm.Cond.methodLink "LateInksModel" (161 : Nat) ({ cls := "LateInksModel", name := "partyLine", desc := "(I)V" } : Jvm.MethodName)) ∈ lw_all := lw_g (lw_at lw_m10 0 rfl) rfl
theorem q2293 : (Jvm.Cond.privateMethod ({ cls := "LateInksModel", name := "partyLine", desc := "(I)V" } : Jvm.MethodName)) ∈ lw_tbl := lw_at lw_m10 1 rfl
theorem q2294 : (Jvm.Cond.instanceMethod ({ cls := "LateInksModel", name := "partyLine", desc := "(I)V" } : Jvm.MethodName)) ∈ lw_all := lw_g (lw_at lw_m10 2 rfl) rfl
theorem q2295 : (Jvm.Cond.code ({ cls := "LateInksModel", name := "partyLine", desc := "(I)V" } : Jvm.MethodName) prog_20_method_29_code (3 : Nat) (Option.none : Option Jvm.ClassFile.FieldType)) ∈ lw_all := lw_g (lw_at lw_m10 3 rfl) rfl
theorem q2296 : (Jvm.Cond.methodLink "LateInksModel" (164 : Nat) ({ cls := "LateInksModel", name := "inkLine", desc := "(I)V" } : Jvm.MethodName)) ∈ lw_all := lw_g (lw_at lw_m10 4 rfl) rfl
theorem q2297 : (Jvm.Cond.privateMethod ({ cls := "LateInksModel", name := "inkLine", desc := "(I)V" } : Jvm.MethodName)) ∈ lw_tbl := lw_at lw_m10 5 rfl
theorem q2298 : (Jvm.Cond.instanceMethod ({ cls := "LateInksModel", name := "inkLine", desc := "(I)V" } : Jvm.MethodName)) ∈ lw_all := lw_g (lw_at lw_m10 6 rfl) rfl
theorem q2299 : (Jvm.Cond.code ({ cls := "LateInksModel", name := "inkLine", desc := "(I)V" } : Jvm.MethodName) prog_20_method_31_code (6 : Nat) (Option.none : Option Jvm.ClassFile.FieldType)) ∈ lw_all := lw_g (lw_at lw_m10 7 rfl) rfl
theorem q2300 : (Jvm.Cond.stringRef "LateInksModel" (112 : Nat) "age") ∈ lw_tbl := lw_at lw_m10 8 rfl
theorem q2301 : (Jvm.Cond.methodLink "LateInksModel" (114 : Nat) ({ cls := "LateInksModel", name := "after", desc := "(Ljava/lang/String;II)I" } : Jvm.MethodName)) ∈ lw_all := lw_g (lw_at lw_m10 9 rfl) rfl
theorem q2302 : (Jvm.Cond.privateMethod ({ cls := "LateInksModel", name := "after", desc := "(Ljava/lang/String;II)I" } : Jvm.MethodName)) ∈ lw_tbl := lw_at lw_m10 10 rfl
theorem q2303 : (Jvm.Cond.instanceMethod ({ cls := "LateInksModel", name := "after", desc := "(Ljava/lang/String;II)I" } : Jvm.MethodName)) ∈ lw_all := lw_g (lw_at lw_m10 11 rfl) rfl
theorem q2304 : (Jvm.Cond.code ({ cls := "LateInksModel", name := "after", desc := "(Ljava/lang/String;II)I" } : Jvm.MethodName) prog_20_method_28_code (4 : Nat) (Option.some Jvm.ClassFile.FieldType.int)) ∈ lw_all := lw_g (lw_at lw_m10 12 rfl) rfl
theorem q2305 : (Jvm.Cond.stringRef "LateInksModel" (118 : Nat) "keeps") ∈ lw_tbl := lw_at lw_m10 13 rfl
theorem q2306 : (Jvm.Cond.methodLink "LateInksModel" (120 : Nat) ({ cls := "LateInksModel", name := "maybe", desc := "(Ljava/lang/String;III)I" } : Jvm.MethodName)) ∈ lw_all := lw_g (lw_at lw_m10 14 rfl) rfl
theorem q2307 : (Jvm.Cond.privateMethod ({ cls := "LateInksModel", name := "maybe", desc := "(Ljava/lang/String;III)I" } : Jvm.MethodName)) ∈ lw_tbl := lw_at lw_m10 15 rfl
theorem q2308 : (Jvm.Cond.instanceMethod ({ cls := "LateInksModel", name := "maybe", desc := "(Ljava/lang/String;III)I" } : Jvm.MethodName)) ∈ lw_all := lw_g (lw_at lw_m10 16 rfl) rfl
theorem q2309 : (Jvm.Cond.code ({ cls := "LateInksModel", name := "maybe", desc := "(Ljava/lang/String;III)I" } : Jvm.MethodName) prog_20_method_30_code (5 : Nat) (Option.some Jvm.ClassFile.FieldType.int)) ∈ lw_all := lw_g (lw_at lw_m10 17 rfl) rfl
theorem q2310 : (Jvm.Cond.stringRef "LateInksModel" (124 : Nat) "soaks") ∈ lw_tbl := lw_at lw_m10 18 rfl
theorem q2311 : (Jvm.Cond.methodLink "LateInksModel" (169 : Nat) ({ cls := "LateInksModel", name := "deedLine", desc := "(I)V" } : Jvm.MethodName)) ∈ lw_all := lw_g (lw_at lw_m10 19 rfl) rfl
theorem q2312 : (Jvm.Cond.privateMethod ({ cls := "LateInksModel", name := "deedLine", desc := "(I)V" } : Jvm.MethodName)) ∈ lw_tbl := lw_at lw_m10 20 rfl
theorem q2313 : (Jvm.Cond.instanceMethod ({ cls := "LateInksModel", name := "deedLine", desc := "(I)V" } : Jvm.MethodName)) ∈ lw_all := lw_g (lw_at lw_m10 21 rfl) rfl
theorem q2314 : (Jvm.Cond.code ({ cls := "LateInksModel", name := "deedLine", desc := "(I)V" } : Jvm.MethodName) prog_20_method_33_code (11 : Nat) (Option.none : Option Jvm.ClassFile.FieldType)) ∈ lw_all := lw_g (lw_at lw_m10 22 rfl) rfl
theorem q2315 : (Jvm.Cond.stringRef "LateInksModel" (128 : Nat) "from") ∈ lw_tbl := lw_at lw_m10 23 rfl
theorem q2316 : (Jvm.Cond.stringRef "LateInksModel" (130 : Nat) "to") ∈ lw_tbl := lw_at lw_m10 24 rfl
theorem q2317 : (Jvm.Cond.methodLink "LateInksModel" (132 : Nat) ({ cls := "LateInksModel", name := "expects", desc := "(Ljava/lang/String;)Z" } : Jvm.MethodName)) ∈ lw_all := lw_g (lw_at lw_m10 25 rfl) rfl
theorem q2318 : (Jvm.Cond.privateMethod ({ cls := "LateInksModel", name := "expects", desc := "(Ljava/lang/String;)Z" } : Jvm.MethodName)) ∈ lw_tbl := lw_at lw_m10 26 rfl
theorem q2319 : (Jvm.Cond.instanceMethod ({ cls := "LateInksModel", name := "expects", desc := "(Ljava/lang/String;)Z" } : Jvm.MethodName)) ∈ lw_all := lw_g (lw_at lw_m10 27 rfl) rfl
theorem q2320 : (Jvm.Cond.code ({ cls := "LateInksModel", name := "expects", desc := "(Ljava/lang/String;)Z" } : Jvm.MethodName) prog_20_method_32_code (3 : Nat) (Option.some Jvm.ClassFile.FieldType.boolean)) ∈ lw_all := lw_g (lw_at lw_m10 28 rfl) rfl
theorem q2321 : (Jvm.Cond.stringRef "LateInksModel" (137 : Nat) "term") ∈ lw_tbl := lw_at lw_m10 29 rfl
theorem q2322 : (Jvm.Cond.stringRef "LateInksModel" (139 : Nat) "on") ∈ lw_tbl := lw_at lw_m10 30 rfl
theorem q2323 : (Jvm.Cond.stringRef "LateInksModel" (141 : Nat) "but") ∈ lw_tbl := lw_at lw_m10 31 rfl
theorem q2324 : (Jvm.Cond.methodLink "LateInksModel" (143 : Nat) ({ cls := "LateInksModel", name := "adds", desc := "(IIIIIII)V" } : Jvm.MethodName)) ∈ lw_all := lw_g (lw_at lw_m10 32 rfl) rfl
theorem q2325 : (Jvm.Cond.privateMethod ({ cls := "LateInksModel", name := "adds", desc := "(IIIIIII)V" } : Jvm.MethodName)) ∈ lw_tbl := lw_at lw_m10 33 rfl
theorem q2326 : (Jvm.Cond.instanceMethod ({ cls := "LateInksModel", name := "adds", desc := "(IIIIIII)V" } : Jvm.MethodName)) ∈ lw_all := lw_g (lw_at lw_m10 34 rfl) rfl
theorem q2327 : (Jvm.Cond.code ({ cls := "LateInksModel", name := "adds", desc := "(IIIIIII)V" } : Jvm.MethodName) prog_20_method_34_code (9 : Nat) (Option.none : Option Jvm.ClassFile.FieldType)) ∈ lw_all := lw_g (lw_at lw_m10 35 rfl) rfl
theorem q2328 : (Jvm.Cond.methodLink "LateInksModel" (147 : Nat) ({ cls := "LateInksModel", name := "lays", desc := "(III)V" } : Jvm.MethodName)) ∈ lw_all := lw_g (lw_at lw_m10 36 rfl) rfl
theorem q2329 : (Jvm.Cond.privateMethod ({ cls := "LateInksModel", name := "lays", desc := "(III)V" } : Jvm.MethodName)) ∈ lw_tbl := lw_at lw_m10 37 rfl
theorem q2330 : (Jvm.Cond.instanceMethod ({ cls := "LateInksModel", name := "lays", desc := "(III)V" } : Jvm.MethodName)) ∈ lw_all := lw_g (lw_at lw_m10 38 rfl) rfl
theorem q2331 : (Jvm.Cond.code ({ cls := "LateInksModel", name := "lays", desc := "(III)V" } : Jvm.MethodName) prog_20_method_9_code (4 : Nat) (Option.none : Option Jvm.ClassFile.FieldType)) ∈ lw_all := lw_g (lw_at lw_m10 39 rfl) rfl
theorem q2332 : (Jvm.Cond.methodLink "LateInksModel" (174 : Nat) ({ cls := "LateInksModel", name := "dampLine", desc := "()V" } : Jvm.MethodName)) ∈ lw_all := lw_g (lw_at lw_m10 40 rfl) rfl
theorem q2333 : (Jvm.Cond.privateMethod ({ cls := "LateInksModel", name := "dampLine", desc := "()V" } : Jvm.MethodName)) ∈ lw_tbl := lw_at lw_m10 41 rfl
theorem q2334 : (Jvm.Cond.instanceMethod ({ cls := "LateInksModel", name := "dampLine", desc := "()V" } : Jvm.MethodName)) ∈ lw_all := lw_g (lw_at lw_m10 42 rfl) rfl
theorem q2335 : (Jvm.Cond.code ({ cls := "LateInksModel", name := "dampLine", desc := "()V" } : Jvm.MethodName) prog_20_method_35_code (3 : Nat) (Option.none : Option Jvm.ClassFile.FieldType)) ∈ lw_all := lw_g (lw_at lw_m10 43 rfl) rfl
theorem q2336 : (Jvm.Cond.stringRef "LateInksModel" (151 : Nat) "spring") ∈ lw_tbl := lw_at lw_m10 44 rfl
theorem q2337 : (Jvm.Cond.stringRef "LateInksModel" (153 : Nat) "summer") ∈ lw_tbl := lw_at lw_m10 45 rfl
theorem q2338 : (Jvm.Cond.stringRef "LateInksModel" (155 : Nat) "autumn") ∈ lw_tbl := lw_at lw_m10 46 rfl
theorem q2339 : (Jvm.Cond.stringRef "LateInksModel" (157 : Nat) "winter") ∈ lw_tbl := lw_at lw_m10 47 rfl
theorem q2340 : (Jvm.Cond.methodLink "LateInksModel" (179 : Nat) ({ cls := "LateInksModel", name := "tells", desc := "(III)V" } : Jvm.MethodName)) ∈ lw_all := lw_g (lw_at lw_m10 48 rfl) rfl
theorem q2341 : (Jvm.Cond.privateMethod ({ cls := "LateInksModel", name := "tells", desc := "(III)V" } : Jvm.MethodName)) ∈ lw_tbl := lw_at lw_m10 49 rfl
theorem q2342 : (Jvm.Cond.instanceMethod ({ cls := "LateInksModel", name := "tells", desc := "(III)V" } : Jvm.MethodName)) ∈ lw_all := lw_g (lw_at lw_m10 50 rfl) rfl
theorem q2343 : (Jvm.Cond.code ({ cls := "LateInksModel", name := "tells", desc := "(III)V" } : Jvm.MethodName) prog_20_method_36_code (5 : Nat) (Option.none : Option Jvm.ClassFile.FieldType)) ∈ lw_all := lw_g (lw_at lw_m10 51 rfl) rfl
theorem q2344 : (Jvm.Cond.stringRef "LateInksModel" (182 : Nat) "spray") ∈ lw_tbl := lw_at lw_m10 52 rfl
theorem q2345 : (Jvm.Cond.stringRef "LateInksModel" (184 : Nat) "time") ∈ lw_tbl := lw_at lw_m10 53 rfl
theorem q2346 : (Jvm.Cond.methodLink "LateInksModel" (209 : Nat) ({ cls := "LateInksModel", name := "comesBack", desc := "()V" } : Jvm.MethodName)) ∈ lw_all := lw_g (lw_at lw_m10 54 rfl) rfl
theorem q2347 : (Jvm.Cond.privateMethod ({ cls := "LateInksModel", name := "comesBack", desc := "()V" } : Jvm.MethodName)) ∈ lw_tbl := lw_at lw_m10 55 rfl
theorem q2348 : (Jvm.Cond.instanceMethod ({ cls := "LateInksModel", name := "comesBack", desc := "()V" } : Jvm.MethodName)) ∈ lw_all := lw_g (lw_at lw_m10 56 rfl) rfl
theorem q2349 : (Jvm.Cond.code ({ cls := "LateInksModel", name := "comesBack", desc := "()V" } : Jvm.MethodName) prog_20_method_41_code (2 : Nat) (Option.none : Option Jvm.ClassFile.FieldType)) ∈ lw_all := lw_g (lw_at lw_m10 57 rfl) rfl
theorem q2351 : (Jvm.Cond.instanceMethod ({ cls := "LateInksModel", name := "law", desc := "()I" } : Jvm.MethodName)) ∈ lw_all := lw_g (lw_at lw_m10 59 rfl) rfl
theorem q2352 : (Jvm.Cond.selects "LateInksModel" ({ cls := "LateInksModel", name := "law", desc := "()I" } : Jvm.MethodName) ({ cls := "LateInksModel", name := "law", desc := "()I" } : Jvm.MethodName)) ∈ lw_all := lw_g (lw_at lw_m10 60 rfl) rfl
theorem q2353 : (Jvm.Cond.code ({ cls := "LateInksModel", name := "law", desc := "()I" } : Jvm.MethodName) prog_20_method_50_code (3 : Nat) (Option.some Jvm.ClassFile.FieldType.int)) ∈ lw_all := lw_g (lw_at lw_m10 61 rfl) rfl
theorem q2355 : (Jvm.Cond.instanceMethod ({ cls := "LateInksModel", name := "fault", desc := "()I" } : Jvm.MethodName)) ∈ lw_all := lw_g (lw_at lw_m10 63 rfl) rfl
theorem q2356 : (Jvm.Cond.selects "LateInksModel" ({ cls := "LateInksModel", name := "fault", desc := "()I" } : Jvm.MethodName) ({ cls := "LateInksModel", name := "fault", desc := "()I" } : Jvm.MethodName)) ∈ lw_all := lw_g (lw_at lw_m10 64 rfl) rfl
theorem q2357 : (Jvm.Cond.code ({ cls := "LateInksModel", name := "fault", desc := "()I" } : Jvm.MethodName) prog_20_method_51_code (1 : Nat) (Option.some Jvm.ClassFile.FieldType.int)) ∈ lw_all := lw_g (lw_at lw_m10 65 rfl) rfl
theorem q2359 : (Jvm.Cond.instanceMethod ({ cls := "LateInksModel", name := "party", desc := "(II)I" } : Jvm.MethodName)) ∈ lw_all := lw_g (lw_at lw_m10 67 rfl) rfl
theorem q2360 : (Jvm.Cond.selects "LateInksModel" ({ cls := "LateInksModel", name := "party", desc := "(II)I" } : Jvm.MethodName) ({ cls := "LateInksModel", name := "party", desc := "(II)I" } : Jvm.MethodName)) ∈ lw_all := lw_g (lw_at lw_m10 68 rfl) rfl
theorem q2361 : (Jvm.Cond.code ({ cls := "LateInksModel", name := "party", desc := "(II)I" } : Jvm.MethodName) prog_20_method_64_code (3 : Nat) (Option.some Jvm.ClassFile.FieldType.int)) ∈ lw_all := lw_g (lw_at lw_m10 69 rfl) rfl
theorem q2362 : (Jvm.Cond.methodLink "LateInksModel" (306 : Nat) ({ cls := "LateInksModel", name := "isParty", desc := "(I)Z" } : Jvm.MethodName)) ∈ lw_all := lw_g (lw_at lw_m10 70 rfl) rfl
theorem q2363 : (Jvm.Cond.privateMethod ({ cls := "LateInksModel", name := "isParty", desc := "(I)Z" } : Jvm.MethodName)) ∈ lw_tbl := lw_at lw_m10 71 rfl
theorem q2364 : (Jvm.Cond.instanceMethod ({ cls := "LateInksModel", name := "isParty", desc := "(I)Z" } : Jvm.MethodName)) ∈ lw_all := lw_g (lw_at lw_m10 72 rfl) rfl
theorem q2365 : (Jvm.Cond.code ({ cls := "LateInksModel", name := "isParty", desc := "(I)Z" } : Jvm.MethodName) prog_20_method_12_code (2 : Nat) (Option.some Jvm.ClassFile.FieldType.boolean)) ∈ lw_all := lw_g (lw_at lw_m10 73 rfl) rfl
theorem q2366 : (Jvm.Cond.methodLink "LateInksModel" (309 : Nat) ({ cls := "LateInksModel", name := "shareOf", desc := "(I)I" } : Jvm.MethodName)) ∈ lw_all := lw_g (lw_at lw_m10 74 rfl) rfl
theorem q2367 : (Jvm.Cond.privateMethod ({ cls := "LateInksModel", name := "shareOf", desc := "(I)I" } : Jvm.MethodName)) ∈ lw_tbl := lw_at lw_m10 75 rfl
theorem q2368 : (Jvm.Cond.instanceMethod ({ cls := "LateInksModel", name := "shareOf", desc := "(I)I" } : Jvm.MethodName)) ∈ lw_all := lw_g (lw_at lw_m10 76 rfl) rfl
theorem q2369 : (Jvm.Cond.code ({ cls := "LateInksModel", name := "shareOf", desc := "(I)I" } : Jvm.MethodName) prog_20_method_63_code (4 : Nat) (Option.some Jvm.ClassFile.FieldType.int)) ∈ lw_all := lw_g (lw_at lw_m10 77 rfl) rfl
theorem q2370 : (Jvm.Cond.methodLink "LateInksModel" (282 : Nat) ({ cls := "LateInksModel", name := "coins", desc := "(I)I" } : Jvm.MethodName)) ∈ lw_all := lw_g (lw_at lw_m10 78 rfl) rfl
theorem q2371 : (Jvm.Cond.privateMethod ({ cls := "LateInksModel", name := "coins", desc := "(I)I" } : Jvm.MethodName)) ∈ lw_tbl := lw_at lw_m10 79 rfl
theorem q2372 : (Jvm.Cond.instanceMethod ({ cls := "LateInksModel", name := "coins", desc := "(I)I" } : Jvm.MethodName)) ∈ lw_all := lw_g (lw_at lw_m10 80 rfl) rfl
theorem q2373 : (Jvm.Cond.code ({ cls := "LateInksModel", name := "coins", desc := "(I)I" } : Jvm.MethodName) prog_20_method_11_code (2 : Nat) (Option.some Jvm.ClassFile.FieldType.int)) ∈ lw_all := lw_g (lw_at lw_m10 81 rfl) rfl
theorem q2374 : (Jvm.Cond.methodLink "LateInksModel" (312 : Nat) ({ cls := "LateInksModel", name := "readingOf", desc := "(IZ)I" } : Jvm.MethodName)) ∈ lw_all := lw_g (lw_at lw_m10 82 rfl) rfl
theorem q2375 : (Jvm.Cond.privateMethod ({ cls := "LateInksModel", name := "readingOf", desc := "(IZ)I" } : Jvm.MethodName)) ∈ lw_tbl := lw_at lw_m10 83 rfl
theorem q2376 : (Jvm.Cond.instanceMethod ({ cls := "LateInksModel", name := "readingOf", desc := "(IZ)I" } : Jvm.MethodName)) ∈ lw_all := lw_g (lw_at lw_m10 84 rfl) rfl
theorem q2377 : (Jvm.Cond.code ({ cls := "LateInksModel", name := "readingOf", desc := "(IZ)I" } : Jvm.MethodName) prog_20_method_61_code (5 : Nat) (Option.some Jvm.ClassFile.FieldType.int)) ∈ lw_all := lw_g (lw_at lw_m10 85 rfl) rfl
theorem q2378 : (Jvm.Cond.methodLink "LateInksModel" (60 : Nat) ({ cls := "LateInksModel", name := "inState", desc := "(I)I" } : Jvm.MethodName)) ∈ lw_all := lw_g (lw_at lw_m10 86 rfl) rfl
theorem q2379 : (Jvm.Cond.privateMethod ({ cls := "LateInksModel", name := "inState", desc := "(I)I" } : Jvm.MethodName)) ∈ lw_tbl := lw_at lw_m10 87 rfl
theorem q2380 : (Jvm.Cond.instanceMethod ({ cls := "LateInksModel", name := "inState", desc := "(I)I" } : Jvm.MethodName)) ∈ lw_all := lw_g (lw_at lw_m10 88 rfl) rfl
theorem q2381 : (Jvm.Cond.code ({ cls := "LateInksModel", name := "inState", desc := "(I)I" } : Jvm.MethodName) prog_20_method_15_code (4 : Nat) (Option.some Jvm.ClassFile.FieldType.int)) ∈ lw_all := lw_g (lw_at lw_m10 89 rfl) rfl
theorem q2382 : (Jvm.Cond.methodLink "LateInksModel" (52 : Nat) ({ cls := "LateInksModel", name := "of", desc := "(II)I" } : Jvm.MethodName)) ∈ lw_all := lw_g (lw_at lw_m10 90 rfl) rfl
theorem q2383 : (Jvm.Cond.privateMethod ({ cls := "LateInksModel", name := "of", desc := "(II)I" } : Jvm.MethodName)) ∈ lw_tbl := lw_at lw_m10 91 rfl
theorem q2384 : (Jvm.Cond.instanceMethod ({ cls := "LateInksModel", name := "of", desc := "(II)I" } : Jvm.MethodName)) ∈ lw_all := lw_g (lw_at lw_m10 92 rfl) rfl
theorem q2385 : (Jvm.Cond.code ({ cls := "LateInksModel", name := "of", desc := "(II)I" } : Jvm.MethodName) prog_20_method_8_code (3 : Nat) (Option.some Jvm.ClassFile.FieldType.int)) ∈ lw_all := lw_g (lw_at lw_m10 93 rfl) rfl
theorem q2386 : (Jvm.Cond.methodLink "LateInksModel" (303 : Nat) ({ cls := "LateInksModel", name := "netOf", desc := "(II)I" } : Jvm.MethodName)) ∈ lw_all := lw_g (lw_at lw_m10 94 rfl) rfl
theorem q2387 : (Jvm.Cond.privateMethod ({ cls := "LateInksModel", name := "netOf", desc := "(II)I" } : Jvm.MethodName)) ∈ lw_tbl := lw_at lw_m10 95 rfl
theorem q2388 : (Jvm.Cond.instanceMethod ({ cls := "LateInksModel", name := "netOf", desc := "(II)I" } : Jvm.MethodName)) ∈ lw_all := lw_g (lw_at lw_m10 96 rfl) rfl
theorem q2389 : (Jvm.Cond.code ({ cls := "LateInksModel", name := "netOf", desc := "(II)I" } : Jvm.MethodName) prog_20_method_60_code (6 : Nat) (Option.some Jvm.ClassFile.FieldType.int)) ∈ lw_all := lw_g (lw_at lw_m10 97 rfl) rfl
theorem q2390 : (Jvm.Cond.methodLink "LateInksModel" (64 : Nat) ({ cls := "LateInksModel", name := "isValid", desc := "(II)Z" } : Jvm.MethodName)) ∈ lw_all := lw_g (lw_at lw_m10 98 rfl) rfl
theorem q2391 : (Jvm.Cond.privateMethod ({ cls := "LateInksModel", name := "isValid", desc := "(II)Z" } : Jvm.MethodName)) ∈ lw_tbl := lw_at lw_m10 99 rfl
theorem q2392 : (Jvm.Cond.instanceMethod ({ cls := "LateInksModel", name := "isValid", desc := "(II)Z" } : Jvm.MethodName)) ∈ lw_all := lw_g (lw_at lw_m10 100 rfl) rfl
theorem q2393 : (Jvm.Cond.code ({ cls := "LateInksModel", name := "isValid", desc := "(II)Z" } : Jvm.MethodName) prog_20_method_16_code (4 : Nat) (Option.some Jvm.ClassFile.FieldType.boolean)) ∈ lw_all := lw_g (lw_at lw_m10 101 rfl) rfl
theorem q2394 : (Jvm.Cond.methodLink "LateInksModel" (56 : Nat) ({ cls := "LateInksModel", name := "isOf", desc := "(II)Z" } : Jvm.MethodName)) ∈ lw_all := lw_g (lw_at lw_m10 102 rfl) rfl
theorem q2395 : (Jvm.Cond.static ({ cls := "LateInksModel", name := "isOf", desc := "(II)Z" } : Jvm.MethodName)) ∈ lw_all := lw_g (lw_at lw_m10 103 rfl) rfl
theorem q2396 : (Jvm.Cond.code ({ cls := "LateInksModel", name := "isOf", desc := "(II)Z" } : Jvm.MethodName) prog_20_method_6_code (2 : Nat) (Option.some Jvm.ClassFile.FieldType.boolean)) ∈ lw_all := lw_g (lw_at lw_m10 104 rfl) rfl
theorem q2397 : (Jvm.Cond.methodLink "LateInksModel" (316 : Nat) ({ cls := "LateInksModel", name := "fortuneOf", desc := "(I)I" } : Jvm.MethodName)) ∈ lw_all := lw_g (lw_at lw_m10 105 rfl) rfl
theorem q2398 : (Jvm.Cond.privateMethod ({ cls := "LateInksModel", name := "fortuneOf", desc := "(I)I" } : Jvm.MethodName)) ∈ lw_tbl := lw_at lw_m10 106 rfl
theorem q2399 : (Jvm.Cond.instanceMethod ({ cls := "LateInksModel", name := "fortuneOf", desc := "(I)I" } : Jvm.MethodName)) ∈ lw_all := lw_g (lw_at lw_m10 107 rfl) rfl
theorem q2400 : (Jvm.Cond.code ({ cls := "LateInksModel", name := "fortuneOf", desc := "(I)I" } : Jvm.MethodName) prog_20_method_62_code (5 : Nat) (Option.some Jvm.ClassFile.FieldType.int)) ∈ lw_all := lw_g (lw_at lw_m10 108 rfl) rfl
theorem q2402 : (Jvm.Cond.instanceMethod ({ cls := "LateInksModel", name := "ink", desc := "(II)I" } : Jvm.MethodName)) ∈ lw_all := lw_g (lw_at lw_m10 110 rfl) rfl
theorem q2403 : (Jvm.Cond.selects "LateInksModel" ({ cls := "LateInksModel", name := "ink", desc := "(II)I" } : Jvm.MethodName) ({ cls := "LateInksModel", name := "ink", desc := "(II)I" } : Jvm.MethodName)) ∈ lw_all := lw_g (lw_at lw_m10 111 rfl) rfl
theorem q2404 : (Jvm.Cond.code ({ cls := "LateInksModel", name := "ink", desc := "(II)I" } : Jvm.MethodName) prog_20_method_66_code (3 : Nat) (Option.some Jvm.ClassFile.FieldType.int)) ∈ lw_all := lw_g (lw_at lw_m10 112 rfl) rfl
theorem q2405 : (Jvm.Cond.methodLink "LateInksModel" (319 : Nat) ({ cls := "LateInksModel", name := "isInk", desc := "(I)Z" } : Jvm.MethodName)) ∈ lw_all := lw_g (lw_at lw_m10 113 rfl) rfl
theorem q2406 : (Jvm.Cond.privateMethod ({ cls := "LateInksModel", name := "isInk", desc := "(I)Z" } : Jvm.MethodName)) ∈ lw_tbl := lw_at lw_m10 114 rfl
theorem q2407 : (Jvm.Cond.instanceMethod ({ cls := "LateInksModel", name := "isInk", desc := "(I)Z" } : Jvm.MethodName)) ∈ lw_all := lw_g (lw_at lw_m10 115 rfl) rfl
theorem q2408 : (Jvm.Cond.code ({ cls := "LateInksModel", name := "isInk", desc := "(I)Z" } : Jvm.MethodName) prog_20_method_13_code (2 : Nat) (Option.some Jvm.ClassFile.FieldType.boolean)) ∈ lw_all := lw_g (lw_at lw_m10 116 rfl) rfl
theorem q2409 : (Jvm.Cond.methodLink "LateInksModel" (67 : Nat) ({ cls := "LateInksModel", name := "ofInk", desc := "(II)I" } : Jvm.MethodName)) ∈ lw_all := lw_g (lw_at lw_m10 117 rfl) rfl
theorem q2410 : (Jvm.Cond.privateMethod ({ cls := "LateInksModel", name := "ofInk", desc := "(II)I" } : Jvm.MethodName)) ∈ lw_tbl := lw_at lw_m10 118 rfl
theorem q2411 : (Jvm.Cond.instanceMethod ({ cls := "LateInksModel", name := "ofInk", desc := "(II)I" } : Jvm.MethodName)) ∈ lw_all := lw_g (lw_at lw_m10 119 rfl) rfl
theorem q2412 : (Jvm.Cond.code ({ cls := "LateInksModel", name := "ofInk", desc := "(II)I" } : Jvm.MethodName) prog_20_method_10_code (3 : Nat) (Option.some Jvm.ClassFile.FieldType.int)) ∈ lw_all := lw_g (lw_at lw_m10 120 rfl) rfl
theorem q2413 : (Jvm.Cond.methodLink "LateInksModel" (322 : Nat) ({ cls := "LateInksModel", name := "jarOf", desc := "(I)I" } : Jvm.MethodName)) ∈ lw_all := lw_g (lw_at lw_m10 121 rfl) rfl
theorem q2414 : (Jvm.Cond.privateMethod ({ cls := "LateInksModel", name := "jarOf", desc := "(I)I" } : Jvm.MethodName)) ∈ lw_tbl := lw_at lw_m10 122 rfl
theorem q2415 : (Jvm.Cond.instanceMethod ({ cls := "LateInksModel", name := "jarOf", desc := "(I)I" } : Jvm.MethodName)) ∈ lw_all := lw_g (lw_at lw_m10 123 rfl) rfl
theorem q2416 : (Jvm.Cond.code ({ cls := "LateInksModel", name := "jarOf", desc := "(I)I" } : Jvm.MethodName) prog_20_method_65_code (4 : Nat) (Option.some Jvm.ClassFile.FieldType.int)) ∈ lw_all := lw_g (lw_at lw_m10 124 rfl) rfl
theorem q2418 : (Jvm.Cond.instanceMethod ({ cls := "LateInksModel", name := "deed", desc := "(II)I" } : Jvm.MethodName)) ∈ lw_all := lw_g (lw_at lw_m10 126 rfl) rfl
theorem q2419 : (Jvm.Cond.selects "LateInksModel" ({ cls := "LateInksModel", name := "deed", desc := "(II)I" } : Jvm.MethodName) ({ cls := "LateInksModel", name := "deed", desc := "(II)I" } : Jvm.MethodName)) ∈ lw_all := lw_g (lw_at lw_m10 127 rfl) rfl
theorem q2420 : (Jvm.Cond.code ({ cls := "LateInksModel", name := "deed", desc := "(II)I" } : Jvm.MethodName) prog_20_method_67_code (3 : Nat) (Option.some Jvm.ClassFile.FieldType.int)) ∈ lw_all := lw_g (lw_at lw_m10 128 rfl) rfl
theorem q2421 : (Jvm.Cond.methodLink "LateInksModel" (325 : Nat) ({ cls := "LateInksModel", name := "isDeed", desc := "(I)Z" } : Jvm.MethodName)) ∈ lw_all := lw_g (lw_at lw_m10 129 rfl) rfl
theorem q2422 : (Jvm.Cond.privateMethod ({ cls := "LateInksModel", name := "isDeed", desc := "(I)Z" } : Jvm.MethodName)) ∈ lw_tbl := lw_at lw_m10 130 rfl
theorem q2423 : (Jvm.Cond.instanceMethod ({ cls := "LateInksModel", name := "isDeed", desc := "(I)Z" } : Jvm.MethodName)) ∈ lw_all := lw_g (lw_at lw_m10 131 rfl) rfl
theorem q2424 : (Jvm.Cond.code ({ cls := "LateInksModel", name := "isDeed", desc := "(I)Z" } : Jvm.MethodName) prog_20_method_14_code (2 : Nat) (Option.some Jvm.ClassFile.FieldType.boolean)) ∈ lw_all := lw_g (lw_at lw_m10 132 rfl) rfl
theorem q2425 : (Jvm.Cond.methodLink "LateInksModel" (272 : Nat) ({ cls := "LateInksModel", name := "asks", desc := "(I)V" } : Jvm.MethodName)) ∈ lw_all := lw_g (lw_at lw_m10 133 rfl) rfl
theorem q2426 : (Jvm.Cond.privateMethod ({ cls := "LateInksModel", name := "asks", desc := "(I)V" } : Jvm.MethodName)) ∈ lw_tbl := lw_at lw_m10 134 rfl
theorem q2427 : (Jvm.Cond.instanceMethod ({ cls := "LateInksModel", name := "asks", desc := "(I)V" } : Jvm.MethodName)) ∈ lw_all := lw_g (lw_at lw_m10 135 rfl) rfl
theorem q2428 : (Jvm.Cond.code ({ cls := "LateInksModel", name := "asks", desc := "(I)V" } : Jvm.MethodName) prog_20_method_52_code (5 : Nat) (Option.none : Option Jvm.ClassFile.FieldType)) ∈ lw_all := lw_g (lw_at lw_m10 136 rfl) rfl
theorem q2429 : (Jvm.Cond.methodLink "LateInksModel" (266 : Nat) ({ cls := "LateInksModel", name := "soaked", desc := "(II)I" } : Jvm.MethodName)) ∈ lw_all := lw_g (lw_at lw_m10 137 rfl) rfl
theorem q2430 : (Jvm.Cond.privateMethod ({ cls := "LateInksModel", name := "soaked", desc := "(II)I" } : Jvm.MethodName)) ∈ lw_tbl := lw_at lw_m10 138 rfl
theorem q2431 : (Jvm.Cond.instanceMethod ({ cls := "LateInksModel", name := "soaked", desc := "(II)I" } : Jvm.MethodName)) ∈ lw_all := lw_g (lw_at lw_m10 139 rfl) rfl
theorem q2432 : (Jvm.Cond.code ({ cls := "LateInksModel", name := "soaked", desc := "(II)I" } : Jvm.MethodName) prog_20_method_18_code (3 : Nat) (Option.some Jvm.ClassFile.FieldType.int)) ∈ lw_all := lw_g (lw_at lw_m10 140 rfl) rfl
theorem q2433 : (Jvm.Cond.methodLink "LateInksModel" (269 : Nat) ({ cls := "LateInksModel", name := "greater", desc := "(II)I" } : Jvm.MethodName)) ∈ lw_all := lw_g (lw_at lw_m10 141 rfl) rfl
theorem q2434 : (Jvm.Cond.static ({ cls := "LateInksModel", name := "greater", desc := "(II)I" } : Jvm.MethodName)) ∈ lw_all := lw_g (lw_at lw_m10 142 rfl) rfl
theorem q2435 : (Jvm.Cond.code ({ cls := "LateInksModel", name := "greater", desc := "(II)I" } : Jvm.MethodName) prog_20_method_5_code (2 : Nat) (Option.some Jvm.ClassFile.FieldType.int)) ∈ lw_all := lw_g (lw_at lw_m10 143 rfl) rfl
theorem q2436 : (Jvm.Cond.methodLink "LateInksModel" (294 : Nat) ({ cls := "LateInksModel", name := "isValidNow", desc := "(I)Z" } : Jvm.MethodName)) ∈ lw_all := lw_g (lw_at lw_m10 144 rfl) rfl
theorem q2437 : (Jvm.Cond.privateMethod ({ cls := "LateInksModel", name := "isValidNow", desc := "(I)Z" } : Jvm.MethodName)) ∈ lw_tbl := lw_at lw_m10 145 rfl
theorem q2438 : (Jvm.Cond.instanceMethod ({ cls := "LateInksModel", name := "isValidNow", desc := "(I)Z" } : Jvm.MethodName)) ∈ lw_all := lw_g (lw_at lw_m10 146 rfl) rfl
theorem q2439 : (Jvm.Cond.code ({ cls := "LateInksModel", name := "isValidNow", desc := "(I)Z" } : Jvm.MethodName) prog_20_method_17_code (2 : Nat) (Option.some Jvm.ClassFile.FieldType.boolean)) ∈ lw_all := lw_g (lw_at lw_m10 147 rfl) rfl
theorem q2440 : (Jvm.Cond.methodLink "LateInksModel" (328 : Nat) ({ cls := "LateInksModel", name := "priceOf", desc := "(I)I" } : Jvm.MethodName)) ∈ lw_all := lw_g (lw_at lw_m10 148 rfl) rfl
theorem q2441 : (Jvm.Cond.privateMethod ({ cls := "LateInksModel", name := "priceOf", desc := "(I)I" } : Jvm.MethodName)) ∈ lw_tbl := lw_at lw_m10 149 rfl
theorem q2442 : (Jvm.Cond.instanceMethod ({ cls := "LateInksModel", name := "priceOf", desc := "(I)I" } : Jvm.MethodName)) ∈ lw_all := lw_g (lw_at lw_m10 150 rfl) rfl
theorem q2443 : (Jvm.Cond.code ({ cls := "LateInksModel", name := "priceOf", desc := "(I)I" } : Jvm.MethodName) prog_20_method_109_code (3 : Nat) (Option.some Jvm.ClassFile.FieldType.int)) ∈ lw_all := lw_g (lw_at lw_m10 151 rfl) rfl
theorem q2444 : (Jvm.Cond.methodLink "LateInksModel" (347 : Nat) ({ cls := "LateInksModel", name := "whenOf", desc := "(I)I" } : Jvm.MethodName)) ∈ lw_all := lw_g (lw_at lw_m10 152 rfl) rfl
theorem q2445 : (Jvm.Cond.privateMethod ({ cls := "LateInksModel", name := "whenOf", desc := "(I)I" } : Jvm.MethodName)) ∈ lw_tbl := lw_at lw_m10 153 rfl
theorem q2446 : (Jvm.Cond.instanceMethod ({ cls := "LateInksModel", name := "whenOf", desc := "(I)I" } : Jvm.MethodName)) ∈ lw_all := lw_g (lw_at lw_m10 154 rfl) rfl
theorem q2447 : (Jvm.Cond.code ({ cls := "LateInksModel", name := "whenOf", desc := "(I)I" } : Jvm.MethodName) prog_20_method_81_code (2 : Nat) (Option.some Jvm.ClassFile.FieldType.int)) ∈ lw_all := lw_g (lw_at lw_m10 155 rfl) rfl
theorem q2448 : (Jvm.Cond.methodLink "LateInksModel" (343 : Nat) ({ cls := "LateInksModel", name := "firstBy", desc := "(III)I" } : Jvm.MethodName)) ∈ lw_all := lw_g (lw_at lw_m10 156 rfl) rfl
theorem q2449 : (Jvm.Cond.privateMethod ({ cls := "LateInksModel", name := "firstBy", desc := "(III)I" } : Jvm.MethodName)) ∈ lw_tbl := lw_at lw_m10 157 rfl
theorem q2450 : (Jvm.Cond.instanceMethod ({ cls := "LateInksModel", name := "firstBy", desc := "(III)I" } : Jvm.MethodName)) ∈ lw_all := lw_g (lw_at lw_m10 158 rfl) rfl
theorem q2451 : (Jvm.Cond.code ({ cls := "LateInksModel", name := "firstBy", desc := "(III)I" } : Jvm.MethodName) prog_20_method_80_code (7 : Nat) (Option.some Jvm.ClassFile.FieldType.int)) ∈ lw_all := lw_g (lw_at lw_m10 159 rfl) rfl
theorem q2452 : (Jvm.Cond.methodLink "LateInksModel" (300 : Nat) ({ cls := "LateInksModel", name := "passes", desc := "(Z)I" } : Jvm.MethodName)) ∈ lw_all := lw_g (lw_at lw_m10 160 rfl) rfl
theorem q2453 : (Jvm.Cond.privateMethod ({ cls := "LateInksModel", name := "passes", desc := "(Z)I" } : Jvm.MethodName)) ∈ lw_tbl := lw_at lw_m10 161 rfl
theorem q2454 : (Jvm.Cond.instanceMethod ({ cls := "LateInksModel", name := "passes", desc := "(Z)I" } : Jvm.MethodName)) ∈ lw_all := lw_g (lw_at lw_m10 162 rfl) rfl
theorem q2455 : (Jvm.Cond.code ({ cls := "LateInksModel", name := "passes", desc := "(Z)I" } : Jvm.MethodName) prog_20_method_58_code (6 : Nat) (Option.some Jvm.ClassFile.FieldType.int)) ∈ lw_all := lw_g (lw_at lw_m10 163 rfl) rfl
theorem q2456 : (Jvm.Cond.methodLink "LateInksModel" (285 : Nat) ({ cls := "LateInksModel", name := "draw", desc := "(I)I" } : Jvm.MethodName)) ∈ lw_all := lw_g (lw_at lw_m10 164 rfl) rfl
theorem q2457 : (Jvm.Cond.privateMethod ({ cls := "LateInksModel", name := "draw", desc := "(I)I" } : Jvm.MethodName)) ∈ lw_tbl := lw_at lw_m10 165 rfl
theorem q2458 : (Jvm.Cond.instanceMethod ({ cls := "LateInksModel", name := "draw", desc := "(I)I" } : Jvm.MethodName)) ∈ lw_all := lw_g (lw_at lw_m10 166 rfl) rfl
theorem q2459 : (Jvm.Cond.code ({ cls := "LateInksModel", name := "draw", desc := "(I)I" } : Jvm.MethodName) prog_20_method_54_code (2 : Nat) (Option.some Jvm.ClassFile.FieldType.int)) ∈ lw_all := lw_g (lw_at lw_m10 167 rfl) rfl
theorem q2460 : (Jvm.Cond.constant "LateInksModel" (275 : Nat) (1103515245 : Int32)) ∈ lw_all := lw_g (lw_at lw_m10 168 rfl) rfl
theorem q2461 : (Jvm.Cond.methodLink "LateInksModel" (276 : Nat) ({ cls := "LateInksModel", name := "lesser", desc := "(II)I" } : Jvm.MethodName)) ∈ lw_all := lw_g (lw_at lw_m10 169 rfl) rfl
theorem q2462 : (Jvm.Cond.static ({ cls := "LateInksModel", name := "lesser", desc := "(II)I" } : Jvm.MethodName)) ∈ lw_all := lw_g (lw_at lw_m10 170 rfl) rfl
theorem q2463 : (Jvm.Cond.code ({ cls := "LateInksModel", name := "lesser", desc := "(II)I" } : Jvm.MethodName) prog_20_method_4_code (2 : Nat) (Option.some Jvm.ClassFile.FieldType.int)) ∈ lw_all := lw_g (lw_at lw_m10 171 rfl) rfl
theorem q2464 : (Jvm.Cond.methodLink "LateInksModel" (291 : Nat) ({ cls := "LateInksModel", name := "comesUp", desc := "(I)V" } : Jvm.MethodName)) ∈ lw_all := lw_g (lw_at lw_m10 172 rfl) rfl
theorem q2465 : (Jvm.Cond.privateMethod ({ cls := "LateInksModel", name := "comesUp", desc := "(I)V" } : Jvm.MethodName)) ∈ lw_tbl := lw_at lw_m10 173 rfl
theorem q2466 : (Jvm.Cond.instanceMethod ({ cls := "LateInksModel", name := "comesUp", desc := "(I)V" } : Jvm.MethodName)) ∈ lw_all := lw_g (lw_at lw_m10 174 rfl) rfl
theorem q2467 : (Jvm.Cond.code ({ cls := "LateInksModel", name := "comesUp", desc := "(I)V" } : Jvm.MethodName) prog_20_method_56_code (2 : Nat) (Option.none : Option Jvm.ClassFile.FieldType)) ∈ lw_all := lw_g (lw_at lw_m10 175 rfl) rfl
theorem q2468 : (Jvm.Cond.methodLink "LateInksModel" (279 : Nat) ({ cls := "LateInksModel", name := "logs", desc := "(III)V" } : Jvm.MethodName)) ∈ lw_all := lw_g (lw_at lw_m10 176 rfl) rfl
theorem q2469 : (Jvm.Cond.privateMethod ({ cls := "LateInksModel", name := "logs", desc := "(III)V" } : Jvm.MethodName)) ∈ lw_tbl := lw_at lw_m10 177 rfl
theorem q2470 : (Jvm.Cond.instanceMethod ({ cls := "LateInksModel", name := "logs", desc := "(III)V" } : Jvm.MethodName)) ∈ lw_all := lw_g (lw_at lw_m10 178 rfl) rfl
theorem q2471 : (Jvm.Cond.code ({ cls := "LateInksModel", name := "logs", desc := "(III)V" } : Jvm.MethodName) prog_20_method_55_code (5 : Nat) (Option.none : Option Jvm.ClassFile.FieldType)) ∈ lw_all := lw_g (lw_at lw_m10 179 rfl) rfl
theorem q2472 : (Jvm.Cond.methodLink "LateInksModel" (297 : Nat) ({ cls := "LateInksModel", name := "pays", desc := "(I)V" } : Jvm.MethodName)) ∈ lw_all := lw_g (lw_at lw_m10 180 rfl) rfl
theorem q2473 : (Jvm.Cond.privateMethod ({ cls := "LateInksModel", name := "pays", desc := "(I)V" } : Jvm.MethodName)) ∈ lw_tbl := lw_at lw_m10 181 rfl
theorem q2474 : (Jvm.Cond.instanceMethod ({ cls := "LateInksModel", name := "pays", desc := "(I)V" } : Jvm.MethodName)) ∈ lw_all := lw_g (lw_at lw_m10 182 rfl) rfl
theorem q2475 : (Jvm.Cond.code ({ cls := "LateInksModel", name := "pays", desc := "(I)V" } : Jvm.MethodName) prog_20_method_57_code (5 : Nat) (Option.none : Option Jvm.ClassFile.FieldType)) ∈ lw_all := lw_g (lw_at lw_m10 183 rfl) rfl
theorem q2477 : (Jvm.Cond.instanceMethod ({ cls := "LateInksModel", name := "seasons", desc := "(I)I" } : Jvm.MethodName)) ∈ lw_all := lw_g (lw_at lw_m10 185 rfl) rfl
theorem q2478 : (Jvm.Cond.selects "LateInksModel" ({ cls := "LateInksModel", name := "seasons", desc := "(I)I" } : Jvm.MethodName) ({ cls := "LateInksModel", name := "seasons", desc := "(I)I" } : Jvm.MethodName)) ∈ lw_all := lw_g (lw_at lw_m10 186 rfl) rfl
theorem q2479 : (Jvm.Cond.code ({ cls := "LateInksModel", name := "seasons", desc := "(I)I" } : Jvm.MethodName) prog_20_method_70_code (2 : Nat) (Option.some Jvm.ClassFile.FieldType.int)) ∈ lw_all := lw_g (lw_at lw_m10 187 rfl) rfl
theorem q2480 : (Jvm.Cond.methodLink "LateInksModel" (331 : Nat) ({ cls := "LateInksModel", name := "remembers", desc := "()V" } : Jvm.MethodName)) ∈ lw_all := lw_g (lw_at lw_m10 188 rfl) rfl
theorem q2481 : (Jvm.Cond.privateMethod ({ cls := "LateInksModel", name := "remembers", desc := "()V" } : Jvm.MethodName)) ∈ lw_tbl := lw_at lw_m10 189 rfl
theorem q2482 : (Jvm.Cond.instanceMethod ({ cls := "LateInksModel", name := "remembers", desc := "()V" } : Jvm.MethodName)) ∈ lw_all := lw_g (lw_at lw_m10 190 rfl) rfl
theorem q2483 : (Jvm.Cond.code ({ cls := "LateInksModel", name := "remembers", desc := "()V" } : Jvm.MethodName) prog_20_method_68_code (2 : Nat) (Option.none : Option Jvm.ClassFile.FieldType)) ∈ lw_all := lw_g (lw_at lw_m10 191 rfl) rfl
theorem q2484 : (Jvm.Cond.methodLink "LateInksModel" (334 : Nat) ({ cls := "LateInksModel", name := "goes", desc := "(IZ)I" } : Jvm.MethodName)) ∈ lw_all := lw_g (lw_at lw_m10 192 rfl) rfl
theorem q2485 : (Jvm.Cond.privateMethod ({ cls := "LateInksModel", name := "goes", desc := "(IZ)I" } : Jvm.MethodName)) ∈ lw_tbl := lw_at lw_m10 193 rfl
theorem q2486 : (Jvm.Cond.instanceMethod ({ cls := "LateInksModel", name := "goes", desc := "(IZ)I" } : Jvm.MethodName)) ∈ lw_all := lw_g (lw_at lw_m10 194 rfl) rfl
theorem q2487 : (Jvm.Cond.code ({ cls := "LateInksModel", name := "goes", desc := "(IZ)I" } : Jvm.MethodName) prog_20_method_59_code (5 : Nat) (Option.some Jvm.ClassFile.FieldType.int)) ∈ lw_all := lw_g (lw_at lw_m10 195 rfl) rfl
theorem q2489 : (Jvm.Cond.instanceMethod ({ cls := "LateInksModel", name := "write", desc := "(IIIII)I" } : Jvm.MethodName)) ∈ lw_all := lw_g (lw_at lw_m10 197 rfl) rfl
theorem q2490 : (Jvm.Cond.selects "LateInksModel" ({ cls := "LateInksModel", name := "write", desc := "(IIIII)I" } : Jvm.MethodName) ({ cls := "LateInksModel", name := "write", desc := "(IIIII)I" } : Jvm.MethodName)) ∈ lw_all := lw_g (lw_at lw_m10 198 rfl) rfl
theorem q2491 : (Jvm.Cond.code ({ cls := "LateInksModel", name := "write", desc := "(IIIII)I" } : Jvm.MethodName) prog_20_method_71_code (6 : Nat) (Option.some Jvm.ClassFile.FieldType.int)) ∈ lw_all := lw_g (lw_at lw_m10 199 rfl) rfl
theorem q2493 : (Jvm.Cond.instanceMethod ({ cls := "LateInksModel", name := "warm", desc := "(II)I" } : Jvm.MethodName)) ∈ lw_all := lw_g (lw_at lw_m10 201 rfl) rfl
theorem q2494 : (Jvm.Cond.selects "LateInksModel" ({ cls := "LateInksModel", name := "warm", desc := "(II)I" } : Jvm.MethodName) ({ cls := "LateInksModel", name := "warm", desc := "(II)I" } : Jvm.MethodName)) ∈ lw_all := lw_g (lw_at lw_m10 202 rfl) rfl
theorem q2495 : (Jvm.Cond.code ({ cls := "LateInksModel", name := "warm", desc := "(II)I" } : Jvm.MethodName) prog_20_method_72_code (5 : Nat) (Option.some Jvm.ClassFile.FieldType.int)) ∈ lw_all := lw_g (lw_at lw_m10 203 rfl) rfl
theorem q2496 : (Jvm.Cond.methodLink "LateInksModel" (337 : Nat) ({ cls := "LateInksModel", name := "costsOf", desc := "(I)I" } : Jvm.MethodName)) ∈ lw_all := lw_g (lw_at lw_m10 204 rfl) rfl
theorem q2497 : (Jvm.Cond.privateMethod ({ cls := "LateInksModel", name := "costsOf", desc := "(I)I" } : Jvm.MethodName)) ∈ lw_tbl := lw_at lw_m10 205 rfl
theorem q2498 : (Jvm.Cond.instanceMethod ({ cls := "LateInksModel", name := "costsOf", desc := "(I)I" } : Jvm.MethodName)) ∈ lw_all := lw_g (lw_at lw_m10 206 rfl) rfl
theorem q2499 : (Jvm.Cond.code ({ cls := "LateInksModel", name := "costsOf", desc := "(I)I" } : Jvm.MethodName) prog_20_method_53_code (2 : Nat) (Option.some Jvm.ClassFile.FieldType.int)) ∈ lw_all := lw_g (lw_at lw_m10 207 rfl) rfl
theorem q2501 : (Jvm.Cond.instanceMethod ({ cls := "LateInksModel", name := "burn", desc := "(I)I" } : Jvm.MethodName)) ∈ lw_all := lw_g (lw_at lw_m10 209 rfl) rfl
theorem q2502 : (Jvm.Cond.selects "LateInksModel" ({ cls := "LateInksModel", name := "burn", desc := "(I)I" } : Jvm.MethodName) ({ cls := "LateInksModel", name := "burn", desc := "(I)I" } : Jvm.MethodName)) ∈ lw_all := lw_g (lw_at lw_m10 210 rfl) rfl
theorem q2503 : (Jvm.Cond.code ({ cls := "LateInksModel", name := "burn", desc := "(I)I" } : Jvm.MethodName) prog_20_method_73_code (3 : Nat) (Option.some Jvm.ClassFile.FieldType.int)) ∈ lw_all := lw_g (lw_at lw_m10 211 rfl) rfl
theorem q2504 : (Jvm.Cond.methodLink "LateInksModel" (340 : Nat) ({ cls := "LateInksModel", name := "sets", desc := "(II)I" } : Jvm.MethodName)) ∈ lw_all := lw_g (lw_at lw_m10 212 rfl) rfl
theorem q2505 : (Jvm.Cond.privateMethod ({ cls := "LateInksModel", name := "sets", desc := "(II)I" } : Jvm.MethodName)) ∈ lw_tbl := lw_at lw_m10 213 rfl
theorem q2506 : (Jvm.Cond.instanceMethod ({ cls := "LateInksModel", name := "sets", desc := "(II)I" } : Jvm.MethodName)) ∈ lw_all := lw_g (lw_at lw_m10 214 rfl) rfl
theorem q2507 : (Jvm.Cond.code ({ cls := "LateInksModel", name := "sets", desc := "(II)I" } : Jvm.MethodName) prog_20_method_69_code (4 : Nat) (Option.some Jvm.ClassFile.FieldType.int)) ∈ lw_all := lw_g (lw_at lw_m10 215 rfl) rfl
theorem q2509 : (Jvm.Cond.instanceMethod ({ cls := "LateInksModel", name := "lend", desc := "(III)I" } : Jvm.MethodName)) ∈ lw_all := lw_g (lw_at lw_m10 217 rfl) rfl
theorem q2510 : (Jvm.Cond.selects "LateInksModel" ({ cls := "LateInksModel", name := "lend", desc := "(III)I" } : Jvm.MethodName) ({ cls := "LateInksModel", name := "lend", desc := "(III)I" } : Jvm.MethodName)) ∈ lw_all := lw_g (lw_at lw_m10 218 rfl) rfl
theorem q2511 : (Jvm.Cond.code ({ cls := "LateInksModel", name := "lend", desc := "(III)I" } : Jvm.MethodName) prog_20_method_74_code (5 : Nat) (Option.some Jvm.ClassFile.FieldType.int)) ∈ lw_all := lw_g (lw_at lw_m10 219 rfl) rfl
theorem q2513 : (Jvm.Cond.instanceMethod ({ cls := "LateInksModel", name := "salt", desc := "(I)I" } : Jvm.MethodName)) ∈ lw_all := lw_g (lw_at lw_m10 221 rfl) rfl
theorem q2514 : (Jvm.Cond.selects "LateInksModel" ({ cls := "LateInksModel", name := "salt", desc := "(I)I" } : Jvm.MethodName) ({ cls := "LateInksModel", name := "salt", desc := "(I)I" } : Jvm.MethodName)) ∈ lw_all := lw_g (lw_at lw_m10 222 rfl) rfl
theorem q2515 : (Jvm.Cond.code ({ cls := "LateInksModel", name := "salt", desc := "(I)I" } : Jvm.MethodName) prog_20_method_75_code (2 : Nat) (Option.some Jvm.ClassFile.FieldType.int)) ∈ lw_all := lw_g (lw_at lw_m10 223 rfl) rfl
theorem q2517 : (Jvm.Cond.instanceMethod ({ cls := "LateInksModel", name := "bar", desc := "(II)I" } : Jvm.MethodName)) ∈ lw_all := lw_g (lw_at lw_m10 225 rfl) rfl
theorem q2518 : (Jvm.Cond.selects "LateInksModel" ({ cls := "LateInksModel", name := "bar", desc := "(II)I" } : Jvm.MethodName) ({ cls := "LateInksModel", name := "bar", desc := "(II)I" } : Jvm.MethodName)) ∈ lw_all := lw_g (lw_at lw_m10 226 rfl) rfl
theorem q2519 : (Jvm.Cond.code ({ cls := "LateInksModel", name := "bar", desc := "(II)I" } : Jvm.MethodName) prog_20_method_76_code (3 : Nat) (Option.some Jvm.ClassFile.FieldType.int)) ∈ lw_all := lw_g (lw_at lw_m10 227 rfl) rfl
theorem q2521 : (Jvm.Cond.instanceMethod ({ cls := "LateInksModel", name := "reads", desc := "()I" } : Jvm.MethodName)) ∈ lw_all := lw_g (lw_at lw_m10 229 rfl) rfl
theorem q2522 : (Jvm.Cond.selects "LateInksModel" ({ cls := "LateInksModel", name := "reads", desc := "()I" } : Jvm.MethodName) ({ cls := "LateInksModel", name := "reads", desc := "()I" } : Jvm.MethodName)) ∈ lw_all := lw_g (lw_at lw_m10 230 rfl) rfl
theorem q2523 : (Jvm.Cond.code ({ cls := "LateInksModel", name := "reads", desc := "()I" } : Jvm.MethodName) prog_20_method_77_code (1 : Nat) (Option.some Jvm.ClassFile.FieldType.int)) ∈ lw_all := lw_g (lw_at lw_m10 231 rfl) rfl
theorem q2525 : (Jvm.Cond.instanceMethod ({ cls := "LateInksModel", name := "blank", desc := "()I" } : Jvm.MethodName)) ∈ lw_all := lw_g (lw_at lw_m10 233 rfl) rfl
theorem q2526 : (Jvm.Cond.selects "LateInksModel" ({ cls := "LateInksModel", name := "blank", desc := "()I" } : Jvm.MethodName) ({ cls := "LateInksModel", name := "blank", desc := "()I" } : Jvm.MethodName)) ∈ lw_all := lw_g (lw_at lw_m10 234 rfl) rfl
theorem q2527 : (Jvm.Cond.code ({ cls := "LateInksModel", name := "blank", desc := "()I" } : Jvm.MethodName) prog_20_method_78_code (1 : Nat) (Option.some Jvm.ClassFile.FieldType.int)) ∈ lw_all := lw_g (lw_at lw_m10 235 rfl) rfl
theorem q2529 : (Jvm.Cond.instanceMethod ({ cls := "LateInksModel", name := "valid", desc := "()I" } : Jvm.MethodName)) ∈ lw_all := lw_g (lw_at lw_m10 237 rfl) rfl
theorem q2530 : (Jvm.Cond.selects "LateInksModel" ({ cls := "LateInksModel", name := "valid", desc := "()I" } : Jvm.MethodName) ({ cls := "LateInksModel", name := "valid", desc := "()I" } : Jvm.MethodName)) ∈ lw_all := lw_g (lw_at lw_m10 238 rfl) rfl
theorem q2531 : (Jvm.Cond.code ({ cls := "LateInksModel", name := "valid", desc := "()I" } : Jvm.MethodName) prog_20_method_79_code (3 : Nat) (Option.some Jvm.ClassFile.FieldType.int)) ∈ lw_all := lw_g (lw_at lw_m10 239 rfl) rfl
theorem q2533 : (Jvm.Cond.instanceMethod ({ cls := "LateInksModel", name := "when", desc := "(I)I" } : Jvm.MethodName)) ∈ lw_all := lw_g (lw_at lw_m11 1 rfl) rfl
theorem q2534 : (Jvm.Cond.selects "LateInksModel" ({ cls := "LateInksModel", name := "when", desc := "(I)I" } : Jvm.MethodName) ({ cls := "LateInksModel", name := "when", desc := "(I)I" } : Jvm.MethodName)) ∈ lw_all := lw_g (lw_at lw_m11 2 rfl) rfl
theorem q2535 : (Jvm.Cond.code ({ cls := "LateInksModel", name := "when", desc := "(I)I" } : Jvm.MethodName) prog_20_method_82_code (2 : Nat) (Option.some Jvm.ClassFile.FieldType.int)) ∈ lw_all := lw_g (lw_at lw_m11 3 rfl) rfl
theorem q2537 : (Jvm.Cond.instanceMethod ({ cls := "LateInksModel", name := "due", desc := "(I)I" } : Jvm.MethodName)) ∈ lw_all := lw_g (lw_at lw_m11 5 rfl) rfl
theorem q2538 : (Jvm.Cond.selects "LateInksModel" ({ cls := "LateInksModel", name := "due", desc := "(I)I" } : Jvm.MethodName) ({ cls := "LateInksModel", name := "due", desc := "(I)I" } : Jvm.MethodName)) ∈ lw_all := lw_g (lw_at lw_m11 6 rfl) rfl
theorem q2539 : (Jvm.Cond.code ({ cls := "LateInksModel", name := "due", desc := "(I)I" } : Jvm.MethodName) prog_20_method_83_code (2 : Nat) (Option.some Jvm.ClassFile.FieldType.int)) ∈ lw_all := lw_g (lw_at lw_m11 7 rfl) rfl
theorem q2541 : (Jvm.Cond.instanceMethod ({ cls := "LateInksModel", name := "ruin", desc := "(Z)I" } : Jvm.MethodName)) ∈ lw_all := lw_g (lw_at lw_m11 9 rfl) rfl
theorem q2542 : (Jvm.Cond.selects "LateInksModel" ({ cls := "LateInksModel", name := "ruin", desc := "(Z)I" } : Jvm.MethodName) ({ cls := "LateInksModel", name := "ruin", desc := "(Z)I" } : Jvm.MethodName)) ∈ lw_all := lw_g (lw_at lw_m11 10 rfl) rfl
theorem q2543 : (Jvm.Cond.code ({ cls := "LateInksModel", name := "ruin", desc := "(Z)I" } : Jvm.MethodName) prog_20_method_85_code (6 : Nat) (Option.some Jvm.ClassFile.FieldType.int)) ∈ lw_all := lw_g (lw_at lw_m11 11 rfl) rfl
theorem q2544 : (Jvm.Cond.methodLink "LateInksModel" (350 : Nat) ({ cls := "LateInksModel", name := "brokenOnes", desc := "()I" } : Jvm.MethodName)) ∈ lw_all := lw_g (lw_at lw_m11 12 rfl) rfl
theorem q2545 : (Jvm.Cond.privateMethod ({ cls := "LateInksModel", name := "brokenOnes", desc := "()I" } : Jvm.MethodName)) ∈ lw_tbl := lw_at lw_m11 13 rfl
theorem q2546 : (Jvm.Cond.instanceMethod ({ cls := "LateInksModel", name := "brokenOnes", desc := "()I" } : Jvm.MethodName)) ∈ lw_all := lw_g (lw_at lw_m11 14 rfl) rfl
theorem q2547 : (Jvm.Cond.code ({ cls := "LateInksModel", name := "brokenOnes", desc := "()I" } : Jvm.MethodName) prog_20_method_84_code (3 : Nat) (Option.some Jvm.ClassFile.FieldType.int)) ∈ lw_all := lw_g (lw_at lw_m11 15 rfl) rfl
theorem q2549 : (Jvm.Cond.instanceMethod ({ cls := "LateInksModel", name := "wealth", desc := "(II)I" } : Jvm.MethodName)) ∈ lw_all := lw_g (lw_at lw_m11 17 rfl) rfl
theorem q2550 : (Jvm.Cond.selects "LateInksModel" ({ cls := "LateInksModel", name := "wealth", desc := "(II)I" } : Jvm.MethodName) ({ cls := "LateInksModel", name := "wealth", desc := "(II)I" } : Jvm.MethodName)) ∈ lw_all := lw_g (lw_at lw_m11 18 rfl) rfl
theorem q2551 : (Jvm.Cond.code ({ cls := "LateInksModel", name := "wealth", desc := "(II)I" } : Jvm.MethodName) prog_20_method_86_code (5 : Nat) (Option.some Jvm.ClassFile.FieldType.int)) ∈ lw_all := lw_g (lw_at lw_m11 19 rfl) rfl
theorem q2553 : (Jvm.Cond.instanceMethod ({ cls := "LateInksModel", name := "chain", desc := "(I)I" } : Jvm.MethodName)) ∈ lw_all := lw_g (lw_at lw_m11 21 rfl) rfl
theorem q2554 : (Jvm.Cond.selects "LateInksModel" ({ cls := "LateInksModel", name := "chain", desc := "(I)I" } : Jvm.MethodName) ({ cls := "LateInksModel", name := "chain", desc := "(I)I" } : Jvm.MethodName)) ∈ lw_all := lw_g (lw_at lw_m11 22 rfl) rfl
theorem q2555 : (Jvm.Cond.code ({ cls := "LateInksModel", name := "chain", desc := "(I)I" } : Jvm.MethodName) prog_20_method_88_code (2 : Nat) (Option.some Jvm.ClassFile.FieldType.int)) ∈ lw_all := lw_g (lw_at lw_m11 23 rfl) rfl
theorem q2556 : (Jvm.Cond.methodLink "LateInksModel" (353 : Nat) ({ cls := "LateInksModel", name := "chainOf", desc := "(I)I" } : Jvm.MethodName)) ∈ lw_all := lw_g (lw_at lw_m11 24 rfl) rfl
theorem q2557 : (Jvm.Cond.privateMethod ({ cls := "LateInksModel", name := "chainOf", desc := "(I)I" } : Jvm.MethodName)) ∈ lw_tbl := lw_at lw_m11 25 rfl
theorem q2558 : (Jvm.Cond.instanceMethod ({ cls := "LateInksModel", name := "chainOf", desc := "(I)I" } : Jvm.MethodName)) ∈ lw_all := lw_g (lw_at lw_m11 26 rfl) rfl
theorem q2559 : (Jvm.Cond.code ({ cls := "LateInksModel", name := "chainOf", desc := "(I)I" } : Jvm.MethodName) prog_20_method_87_code (4 : Nat) (Option.some Jvm.ClassFile.FieldType.int)) ∈ lw_all := lw_g (lw_at lw_m11 27 rfl) rfl
theorem q2561 : (Jvm.Cond.instanceMethod ({ cls := "LateInksModel", name := "hangs", desc := "(I)I" } : Jvm.MethodName)) ∈ lw_all := lw_g (lw_at lw_m11 29 rfl) rfl
theorem q2562 : (Jvm.Cond.selects "LateInksModel" ({ cls := "LateInksModel", name := "hangs", desc := "(I)I" } : Jvm.MethodName) ({ cls := "LateInksModel", name := "hangs", desc := "(I)I" } : Jvm.MethodName)) ∈ lw_all := lw_g (lw_at lw_m11 30 rfl) rfl
theorem q2563 : (Jvm.Cond.code ({ cls := "LateInksModel", name := "hangs", desc := "(I)I" } : Jvm.MethodName) prog_20_method_89_code (4 : Nat) (Option.some Jvm.ClassFile.FieldType.int)) ∈ lw_all := lw_g (lw_at lw_m11 31 rfl) rfl
theorem q2565 : (Jvm.Cond.instanceMethod ({ cls := "LateInksModel", name := "late", desc := "()I" } : Jvm.MethodName)) ∈ lw_all := lw_g (lw_at lw_m11 33 rfl) rfl
theorem q2566 : (Jvm.Cond.selects "LateInksModel" ({ cls := "LateInksModel", name := "late", desc := "()I" } : Jvm.MethodName) ({ cls := "LateInksModel", name := "late", desc := "()I" } : Jvm.MethodName)) ∈ lw_all := lw_g (lw_at lw_m11 34 rfl) rfl
theorem q2567 : (Jvm.Cond.code ({ cls := "LateInksModel", name := "late", desc := "()I" } : Jvm.MethodName) prog_20_method_90_code (5 : Nat) (Option.some Jvm.ClassFile.FieldType.int)) ∈ lw_all := lw_g (lw_at lw_m11 35 rfl) rfl
theorem q2569 : (Jvm.Cond.instanceMethod ({ cls := "LateInksModel", name := "net", desc := "(II)I" } : Jvm.MethodName)) ∈ lw_all := lw_g (lw_at lw_m11 37 rfl) rfl
theorem q2570 : (Jvm.Cond.selects "LateInksModel" ({ cls := "LateInksModel", name := "net", desc := "(II)I" } : Jvm.MethodName) ({ cls := "LateInksModel", name := "net", desc := "(II)I" } : Jvm.MethodName)) ∈ lw_all := lw_g (lw_at lw_m11 38 rfl) rfl
theorem q2571 : (Jvm.Cond.code ({ cls := "LateInksModel", name := "net", desc := "(II)I" } : Jvm.MethodName) prog_20_method_91_code (3 : Nat) (Option.some Jvm.ClassFile.FieldType.int)) ∈ lw_all := lw_g (lw_at lw_m11 39 rfl) rfl
theorem q2573 : (Jvm.Cond.instanceMethod ({ cls := "LateInksModel", name := "worth", desc := "(IIZ)I" } : Jvm.MethodName)) ∈ lw_all := lw_g (lw_at lw_m11 41 rfl) rfl
theorem q2574 : (Jvm.Cond.selects "LateInksModel" ({ cls := "LateInksModel", name := "worth", desc := "(IIZ)I" } : Jvm.MethodName) ({ cls := "LateInksModel", name := "worth", desc := "(IIZ)I" } : Jvm.MethodName)) ∈ lw_all := lw_g (lw_at lw_m11 42 rfl) rfl
theorem q2575 : (Jvm.Cond.code ({ cls := "LateInksModel", name := "worth", desc := "(IIZ)I" } : Jvm.MethodName) prog_20_method_93_code (8 : Nat) (Option.some Jvm.ClassFile.FieldType.int)) ∈ lw_all := lw_g (lw_at lw_m11 43 rfl) rfl
theorem q2576 : (Jvm.Cond.methodLink "LateInksModel" (356 : Nat) ({ cls := "LateInksModel", name := "costsOfAll", desc := "(I)I" } : Jvm.MethodName)) ∈ lw_all := lw_g (lw_at lw_m11 44 rfl) rfl
theorem q2577 : (Jvm.Cond.privateMethod ({ cls := "LateInksModel", name := "costsOfAll", desc := "(I)I" } : Jvm.MethodName)) ∈ lw_tbl := lw_at lw_m11 45 rfl
theorem q2578 : (Jvm.Cond.instanceMethod ({ cls := "LateInksModel", name := "costsOfAll", desc := "(I)I" } : Jvm.MethodName)) ∈ lw_all := lw_g (lw_at lw_m11 46 rfl) rfl
theorem q2579 : (Jvm.Cond.code ({ cls := "LateInksModel", name := "costsOfAll", desc := "(I)I" } : Jvm.MethodName) prog_20_method_92_code (4 : Nat) (Option.some Jvm.ClassFile.FieldType.int)) ∈ lw_all := lw_g (lw_at lw_m11 47 rfl) rfl
theorem q2581 : (Jvm.Cond.instanceMethod ({ cls := "LateInksModel", name := "jars", desc := "(Z)I" } : Jvm.MethodName)) ∈ lw_all := lw_g (lw_at lw_m11 49 rfl) rfl
theorem q2582 : (Jvm.Cond.selects "LateInksModel" ({ cls := "LateInksModel", name := "jars", desc := "(Z)I" } : Jvm.MethodName) ({ cls := "LateInksModel", name := "jars", desc := "(Z)I" } : Jvm.MethodName)) ∈ lw_all := lw_g (lw_at lw_m11 50 rfl) rfl
theorem q2583 : (Jvm.Cond.code ({ cls := "LateInksModel", name := "jars", desc := "(Z)I" } : Jvm.MethodName) prog_20_method_97_code (5 : Nat) (Option.some Jvm.ClassFile.FieldType.int)) ∈ lw_all := lw_g (lw_at lw_m11 51 rfl) rfl
theorem q2584 : (Jvm.Cond.methodLink "LateInksModel" (365 : Nat) ({ cls := "LateInksModel", name := "heard", desc := "()I" } : Jvm.MethodName)) ∈ lw_all := lw_g (lw_at lw_m11 52 rfl) rfl
theorem q2585 : (Jvm.Cond.privateMethod ({ cls := "LateInksModel", name := "heard", desc := "()I" } : Jvm.MethodName)) ∈ lw_tbl := lw_at lw_m11 53 rfl
theorem q2586 : (Jvm.Cond.instanceMethod ({ cls := "LateInksModel", name := "heard", desc := "()I" } : Jvm.MethodName)) ∈ lw_all := lw_g (lw_at lw_m11 54 rfl) rfl
theorem q2587 : (Jvm.Cond.code ({ cls := "LateInksModel", name := "heard", desc := "()I" } : Jvm.MethodName) prog_20_method_96_code (6 : Nat) (Option.some Jvm.ClassFile.FieldType.int)) ∈ lw_all := lw_g (lw_at lw_m11 55 rfl) rfl
theorem q2588 : (Jvm.Cond.methodLink "LateInksModel" (359 : Nat) ({ cls := "LateInksModel", name := "upOf", desc := "(II)I" } : Jvm.MethodName)) ∈ lw_all := lw_g (lw_at lw_m11 56 rfl) rfl
theorem q2589 : (Jvm.Cond.privateMethod ({ cls := "LateInksModel", name := "upOf", desc := "(II)I" } : Jvm.MethodName)) ∈ lw_tbl := lw_at lw_m11 57 rfl
theorem q2590 : (Jvm.Cond.instanceMethod ({ cls := "LateInksModel", name := "upOf", desc := "(II)I" } : Jvm.MethodName)) ∈ lw_all := lw_g (lw_at lw_m11 58 rfl) rfl
theorem q2591 : (Jvm.Cond.code ({ cls := "LateInksModel", name := "upOf", desc := "(II)I" } : Jvm.MethodName) prog_20_method_94_code (5 : Nat) (Option.some Jvm.ClassFile.FieldType.int)) ∈ lw_all := lw_g (lw_at lw_m11 59 rfl) rfl
theorem q2592 : (Jvm.Cond.methodLink "LateInksModel" (362 : Nat) ({ cls := "LateInksModel", name := "isRead", desc := "(II)Z" } : Jvm.MethodName)) ∈ lw_all := lw_g (lw_at lw_m11 60 rfl) rfl
theorem q2593 : (Jvm.Cond.privateMethod ({ cls := "LateInksModel", name := "isRead", desc := "(II)Z" } : Jvm.MethodName)) ∈ lw_tbl := lw_at lw_m11 61 rfl
theorem q2594 : (Jvm.Cond.instanceMethod ({ cls := "LateInksModel", name := "isRead", desc := "(II)Z" } : Jvm.MethodName)) ∈ lw_all := lw_g (lw_at lw_m11 62 rfl) rfl
theorem q2595 : (Jvm.Cond.code ({ cls := "LateInksModel", name := "isRead", desc := "(II)Z" } : Jvm.MethodName) prog_20_method_95_code (4 : Nat) (Option.some Jvm.ClassFile.FieldType.boolean)) ∈ lw_all := lw_g (lw_at lw_m11 63 rfl) rfl
theorem q2597 : (Jvm.Cond.instanceMethod ({ cls := "LateInksModel", name := "ask", desc := "()I" } : Jvm.MethodName)) ∈ lw_all := lw_g (lw_at lw_m11 65 rfl) rfl
theorem q2598 : (Jvm.Cond.selects "LateInksModel" ({ cls := "LateInksModel", name := "ask", desc := "()I" } : Jvm.MethodName) ({ cls := "LateInksModel", name := "ask", desc := "()I" } : Jvm.MethodName)) ∈ lw_all := lw_g (lw_at lw_m11 66 rfl) rfl
theorem q2599 : (Jvm.Cond.code ({ cls := "LateInksModel", name := "ask", desc := "()I" } : Jvm.MethodName) prog_20_method_98_code (7 : Nat) (Option.some Jvm.ClassFile.FieldType.int)) ∈ lw_all := lw_g (lw_at lw_m11 67 rfl) rfl
theorem q2600 : (Jvm.Cond.constant "LateInksModel" (368 : Nat) (2000000000 : Int32)) ∈ lw_all := lw_g (lw_at lw_m11 68 rfl) rfl
theorem q2602 : (Jvm.Cond.instanceMethod ({ cls := "LateInksModel", name := "forged", desc := "(I)Z" } : Jvm.MethodName)) ∈ lw_all := lw_g (lw_at lw_m11 70 rfl) rfl
theorem q2603 : (Jvm.Cond.selects "LateInksModel" ({ cls := "LateInksModel", name := "forged", desc := "(I)Z" } : Jvm.MethodName) ({ cls := "LateInksModel", name := "forged", desc := "(I)Z" } : Jvm.MethodName)) ∈ lw_all := lw_g (lw_at lw_m11 71 rfl) rfl
theorem q2604 : (Jvm.Cond.code ({ cls := "LateInksModel", name := "forged", desc := "(I)Z" } : Jvm.MethodName) prog_20_method_99_code (2 : Nat) (Option.some Jvm.ClassFile.FieldType.boolean)) ∈ lw_all := lw_g (lw_at lw_m11 72 rfl) rfl
theorem q2606 : (Jvm.Cond.instanceMethod ({ cls := "LateInksModel", name := "apart", desc := "()I" } : Jvm.MethodName)) ∈ lw_all := lw_g (lw_at lw_m11 74 rfl) rfl
theorem q2607 : (Jvm.Cond.selects "LateInksModel" ({ cls := "LateInksModel", name := "apart", desc := "()I" } : Jvm.MethodName) ({ cls := "LateInksModel", name := "apart", desc := "()I" } : Jvm.MethodName)) ∈ lw_all := lw_g (lw_at lw_m11 75 rfl) rfl
theorem q2608 : (Jvm.Cond.code ({ cls := "LateInksModel", name := "apart", desc := "()I" } : Jvm.MethodName) prog_20_method_101_code (6 : Nat) (Option.some Jvm.ClassFile.FieldType.int)) ∈ lw_all := lw_g (lw_at lw_m11 76 rfl) rfl
theorem q2609 : (Jvm.Cond.methodLink "LateInksModel" (369 : Nat) ({ cls := "LateInksModel", name := "bits", desc := "(I)I" } : Jvm.MethodName)) ∈ lw_all := lw_g (lw_at lw_m11 77 rfl) rfl
theorem q2610 : (Jvm.Cond.static ({ cls := "LateInksModel", name := "bits", desc := "(I)I" } : Jvm.MethodName)) ∈ lw_all := lw_g (lw_at lw_m11 78 rfl) rfl
theorem q2611 : (Jvm.Cond.code ({ cls := "LateInksModel", name := "bits", desc := "(I)I" } : Jvm.MethodName) prog_20_method_7_code (3 : Nat) (Option.some Jvm.ClassFile.FieldType.int)) ∈ lw_all := lw_g (lw_at lw_m11 79 rfl) rfl
theorem q2612 : (Jvm.Cond.methodLink "LateInksModel" (372 : Nat) ({ cls := "LateInksModel", name := "areApart", desc := "(III)Z" } : Jvm.MethodName)) ∈ lw_all := lw_g (lw_at lw_m11 80 rfl) rfl
theorem q2613 : (Jvm.Cond.privateMethod ({ cls := "LateInksModel", name := "areApart", desc := "(III)Z" } : Jvm.MethodName)) ∈ lw_tbl := lw_at lw_m11 81 rfl
theorem q2614 : (Jvm.Cond.instanceMethod ({ cls := "LateInksModel", name := "areApart", desc := "(III)Z" } : Jvm.MethodName)) ∈ lw_all := lw_g (lw_at lw_m11 82 rfl) rfl
theorem q2615 : (Jvm.Cond.code ({ cls := "LateInksModel", name := "areApart", desc := "(III)Z" } : Jvm.MethodName) prog_20_method_100_code (6 : Nat) (Option.some Jvm.ClassFile.FieldType.boolean)) ∈ lw_all := lw_g (lw_at lw_m11 83 rfl) rfl
theorem q2617 : (Jvm.Cond.instanceMethod ({ cls := "LateInksModel", name := "soonest", desc := "(Z)I" } : Jvm.MethodName)) ∈ lw_all := lw_g (lw_at lw_m11 85 rfl) rfl
theorem q2618 : (Jvm.Cond.selects "LateInksModel" ({ cls := "LateInksModel", name := "soonest", desc := "(Z)I" } : Jvm.MethodName) ({ cls := "LateInksModel", name := "soonest", desc := "(Z)I" } : Jvm.MethodName)) ∈ lw_all := lw_g (lw_at lw_m11 86 rfl) rfl
theorem q2619 : (Jvm.Cond.code ({ cls := "LateInksModel", name := "soonest", desc := "(Z)I" } : Jvm.MethodName) prog_20_method_102_code (6 : Nat) (Option.some Jvm.ClassFile.FieldType.int)) ∈ lw_all := lw_g (lw_at lw_m11 87 rfl) rfl
theorem q2621 : (Jvm.Cond.instanceMethod ({ cls := "LateInksModel", name := "owes", desc := "(II)I" } : Jvm.MethodName)) ∈ lw_all := lw_g (lw_at lw_m11 89 rfl) rfl
theorem q2622 : (Jvm.Cond.selects "LateInksModel" ({ cls := "LateInksModel", name := "owes", desc := "(II)I" } : Jvm.MethodName) ({ cls := "LateInksModel", name := "owes", desc := "(II)I" } : Jvm.MethodName)) ∈ lw_all := lw_g (lw_at lw_m11 90 rfl) rfl
theorem q2623 : (Jvm.Cond.code ({ cls := "LateInksModel", name := "owes", desc := "(II)I" } : Jvm.MethodName) prog_20_method_104_code (3 : Nat) (Option.some Jvm.ClassFile.FieldType.int)) ∈ lw_all := lw_g (lw_at lw_m11 91 rfl) rfl
theorem q2624 : (Jvm.Cond.methodLink "LateInksModel" (375 : Nat) ({ cls := "LateInksModel", name := "owesBy", desc := "(III)I" } : Jvm.MethodName)) ∈ lw_all := lw_g (lw_at lw_m11 92 rfl) rfl
theorem q2625 : (Jvm.Cond.privateMethod ({ cls := "LateInksModel", name := "owesBy", desc := "(III)I" } : Jvm.MethodName)) ∈ lw_tbl := lw_at lw_m11 93 rfl
theorem q2626 : (Jvm.Cond.instanceMethod ({ cls := "LateInksModel", name := "owesBy", desc := "(III)I" } : Jvm.MethodName)) ∈ lw_all := lw_g (lw_at lw_m11 94 rfl) rfl
theorem q2627 : (Jvm.Cond.code ({ cls := "LateInksModel", name := "owesBy", desc := "(III)I" } : Jvm.MethodName) prog_20_method_103_code (6 : Nat) (Option.some Jvm.ClassFile.FieldType.int)) ∈ lw_all := lw_g (lw_at lw_m11 95 rfl) rfl
theorem q2629 : (Jvm.Cond.instanceMethod ({ cls := "LateInksModel", name := "cleared", desc := "()I" } : Jvm.MethodName)) ∈ lw_all := lw_g (lw_at lw_m11 97 rfl) rfl
theorem q2630 : (Jvm.Cond.selects "LateInksModel" ({ cls := "LateInksModel", name := "cleared", desc := "()I" } : Jvm.MethodName) ({ cls := "LateInksModel", name := "cleared", desc := "()I" } : Jvm.MethodName)) ∈ lw_all := lw_g (lw_at lw_m11 98 rfl) rfl
theorem q2631 : (Jvm.Cond.code ({ cls := "LateInksModel", name := "cleared", desc := "()I" } : Jvm.MethodName) prog_20_method_106_code (1 : Nat) (Option.some Jvm.ClassFile.FieldType.int)) ∈ lw_all := lw_g (lw_at lw_m11 99 rfl) rfl
theorem q2632 : (Jvm.Cond.methodLink "LateInksModel" (378 : Nat) ({ cls := "LateInksModel", name := "clearedBy", desc := "(I)I" } : Jvm.MethodName)) ∈ lw_all := lw_g (lw_at lw_m11 100 rfl) rfl
theorem q2633 : (Jvm.Cond.privateMethod ({ cls := "LateInksModel", name := "clearedBy", desc := "(I)I" } : Jvm.MethodName)) ∈ lw_tbl := lw_at lw_m11 101 rfl
theorem q2634 : (Jvm.Cond.instanceMethod ({ cls := "LateInksModel", name := "clearedBy", desc := "(I)I" } : Jvm.MethodName)) ∈ lw_all := lw_g (lw_at lw_m11 102 rfl) rfl
theorem q2635 : (Jvm.Cond.code ({ cls := "LateInksModel", name := "clearedBy", desc := "(I)I" } : Jvm.MethodName) prog_20_method_105_code (6 : Nat) (Option.some Jvm.ClassFile.FieldType.int)) ∈ lw_all := lw_g (lw_at lw_m11 103 rfl) rfl
theorem q2637 : (Jvm.Cond.instanceMethod ({ cls := "LateInksModel", name := "ring", desc := "(I)Z" } : Jvm.MethodName)) ∈ lw_all := lw_g (lw_at lw_m11 105 rfl) rfl
theorem q2638 : (Jvm.Cond.selects "LateInksModel" ({ cls := "LateInksModel", name := "ring", desc := "(I)Z" } : Jvm.MethodName) ({ cls := "LateInksModel", name := "ring", desc := "(I)Z" } : Jvm.MethodName)) ∈ lw_all := lw_g (lw_at lw_m11 106 rfl) rfl
theorem q2639 : (Jvm.Cond.code ({ cls := "LateInksModel", name := "ring", desc := "(I)Z" } : Jvm.MethodName) prog_20_method_107_code (7 : Nat) (Option.some Jvm.ClassFile.FieldType.boolean)) ∈ lw_all := lw_g (lw_at lw_m11 107 rfl) rfl
theorem q2641 : (Jvm.Cond.instanceMethod ({ cls := "LateInksModel", name := "pivot", desc := "()I" } : Jvm.MethodName)) ∈ lw_all := lw_g (lw_at lw_m11 109 rfl) rfl
theorem q2642 : (Jvm.Cond.selects "LateInksModel" ({ cls := "LateInksModel", name := "pivot", desc := "()I" } : Jvm.MethodName) ({ cls := "LateInksModel", name := "pivot", desc := "()I" } : Jvm.MethodName)) ∈ lw_all := lw_g (lw_at lw_m11 110 rfl) rfl
theorem q2643 : (Jvm.Cond.code ({ cls := "LateInksModel", name := "pivot", desc := "()I" } : Jvm.MethodName) prog_20_method_108_code (3 : Nat) (Option.some Jvm.ClassFile.FieldType.int)) ∈ lw_all := lw_g (lw_at lw_m11 111 rfl) rfl
theorem q2645 : (Jvm.Cond.instanceMethod ({ cls := "LateInksModel", name := "buyers", desc := "(I)I" } : Jvm.MethodName)) ∈ lw_all := lw_g (lw_at lw_m11 113 rfl) rfl
theorem q2646 : (Jvm.Cond.selects "LateInksModel" ({ cls := "LateInksModel", name := "buyers", desc := "(I)I" } : Jvm.MethodName) ({ cls := "LateInksModel", name := "buyers", desc := "(I)I" } : Jvm.MethodName)) ∈ lw_all := lw_g (lw_at lw_m11 114 rfl) rfl
theorem q2647 : (Jvm.Cond.code ({ cls := "LateInksModel", name := "buyers", desc := "(I)I" } : Jvm.MethodName) prog_20_method_112_code (6 : Nat) (Option.some Jvm.ClassFile.FieldType.int)) ∈ lw_all := lw_g (lw_at lw_m11 115 rfl) rfl
theorem q2648 : (Jvm.Cond.methodLink "LateInksModel" (384 : Nat) ({ cls := "LateInksModel", name := "sales", desc := "()V" } : Jvm.MethodName)) ∈ lw_all := lw_g (lw_at lw_m11 116 rfl) rfl
theorem q2649 : (Jvm.Cond.privateMethod ({ cls := "LateInksModel", name := "sales", desc := "()V" } : Jvm.MethodName)) ∈ lw_tbl := lw_at lw_m11 117 rfl
theorem q2650 : (Jvm.Cond.instanceMethod ({ cls := "LateInksModel", name := "sales", desc := "()V" } : Jvm.MethodName)) ∈ lw_all := lw_g (lw_at lw_m11 118 rfl) rfl
theorem q2651 : (Jvm.Cond.code ({ cls := "LateInksModel", name := "sales", desc := "()V" } : Jvm.MethodName) prog_20_method_111_code (5 : Nat) (Option.none : Option Jvm.ClassFile.FieldType)) ∈ lw_all := lw_g (lw_at lw_m11 119 rfl) rfl
theorem q2652 : (Jvm.Cond.methodLink "LateInksModel" (381 : Nat) ({ cls := "LateInksModel", name := "mayBuy", desc := "(III)Z" } : Jvm.MethodName)) ∈ lw_all := lw_g (lw_at lw_m11 120 rfl) rfl
theorem q2653 : (Jvm.Cond.privateMethod ({ cls := "LateInksModel", name := "mayBuy", desc := "(III)Z" } : Jvm.MethodName)) ∈ lw_tbl := lw_at lw_m11 121 rfl
theorem q2654 : (Jvm.Cond.instanceMethod ({ cls := "LateInksModel", name := "mayBuy", desc := "(III)Z" } : Jvm.MethodName)) ∈ lw_all := lw_g (lw_at lw_m11 122 rfl) rfl
theorem q2655 : (Jvm.Cond.code ({ cls := "LateInksModel", name := "mayBuy", desc := "(III)Z" } : Jvm.MethodName) prog_20_method_110_code (4 : Nat) (Option.some Jvm.ClassFile.FieldType.boolean)) ∈ lw_all := lw_g (lw_at lw_m11 123 rfl) rfl
theorem q2657 : (Jvm.Cond.instanceMethod ({ cls := "LateInksModel", name := "rests", desc := "(III)I" } : Jvm.MethodName)) ∈ lw_all := lw_g (lw_at lw_m11 125 rfl) rfl
theorem q2658 : (Jvm.Cond.selects "LateInksModel" ({ cls := "LateInksModel", name := "rests", desc := "(III)I" } : Jvm.MethodName) ({ cls := "LateInksModel", name := "rests", desc := "(III)I" } : Jvm.MethodName)) ∈ lw_all := lw_g (lw_at lw_m11 126 rfl) rfl
theorem q2659 : (Jvm.Cond.code ({ cls := "LateInksModel", name := "rests", desc := "(III)I" } : Jvm.MethodName) prog_20_method_114_code (8 : Nat) (Option.some Jvm.ClassFile.FieldType.int)) ∈ lw_all := lw_g (lw_at lw_m11 127 rfl) rfl
theorem q2660 : (Jvm.Cond.methodLink "LateInksModel" (387 : Nat) ({ cls := "LateInksModel", name := "hasBy", desc := "(IIII)I" } : Jvm.MethodName)) ∈ lw_all := lw_g (lw_at lw_m11 128 rfl) rfl
theorem q2661 : (Jvm.Cond.privateMethod ({ cls := "LateInksModel", name := "hasBy", desc := "(IIII)I" } : Jvm.MethodName)) ∈ lw_tbl := lw_at lw_m11 129 rfl
theorem q2662 : (Jvm.Cond.instanceMethod ({ cls := "LateInksModel", name := "hasBy", desc := "(IIII)I" } : Jvm.MethodName)) ∈ lw_all := lw_g (lw_at lw_m11 130 rfl) rfl
theorem q2663 : (Jvm.Cond.code ({ cls := "LateInksModel", name := "hasBy", desc := "(IIII)I" } : Jvm.MethodName) prog_20_method_113_code (6 : Nat) (Option.some Jvm.ClassFile.FieldType.int)) ∈ lw_all := lw_g (lw_at lw_m11 131 rfl) rfl
theorem q2665 : (Jvm.Cond.instanceMethod ({ cls := "LateInksModel", name := "odds", desc := "(II)I" } : Jvm.MethodName)) ∈ lw_all := lw_g (lw_at lw_m11 133 rfl) rfl
theorem q2666 : (Jvm.Cond.selects "LateInksModel" ({ cls := "LateInksModel", name := "odds", desc := "(II)I" } : Jvm.MethodName) ({ cls := "LateInksModel", name := "odds", desc := "(II)I" } : Jvm.MethodName)) ∈ lw_all := lw_g (lw_at lw_m11 134 rfl) rfl
theorem q2667 : (Jvm.Cond.code ({ cls := "LateInksModel", name := "odds", desc := "(II)I" } : Jvm.MethodName) prog_20_method_115_code (11 : Nat) (Option.some Jvm.ClassFile.FieldType.int)) ∈ lw_all := lw_g (lw_at lw_m11 135 rfl) rfl
theorem q2668 : (Jvm.Cond.constantLong "LateInksModel" (391 : Nat) (100 : Int64)) ∈ lw_all := lw_g (lw_at lw_m11 136 rfl) rfl
theorem q2669 : (Jvm.Cond.constantLong "LateInksModel" (393 : Nat) (10000 : Int64)) ∈ lw_all := lw_g (lw_at lw_m11 137 rfl) rfl
theorem q2671 : (Jvm.Cond.instanceMethod ({ cls := "LateInksModel", name := "early", desc := "(I)I" } : Jvm.MethodName)) ∈ lw_all := lw_g (lw_at lw_m11 139 rfl) rfl
theorem q2672 : (Jvm.Cond.selects "LateInksModel" ({ cls := "LateInksModel", name := "early", desc := "(I)I" } : Jvm.MethodName) ({ cls := "LateInksModel", name := "early", desc := "(I)I" } : Jvm.MethodName)) ∈ lw_all := lw_g (lw_at lw_m11 140 rfl) rfl
theorem q2673 : (Jvm.Cond.code ({ cls := "LateInksModel", name := "early", desc := "(I)I" } : Jvm.MethodName) prog_20_method_116_code (4 : Nat) (Option.some Jvm.ClassFile.FieldType.int)) ∈ lw_all := lw_g (lw_at lw_m11 141 rfl) rfl
theorem q2675 : (Jvm.Cond.instanceMethod ({ cls := "LateInksModel", name := "richest", desc := "()I" } : Jvm.MethodName)) ∈ lw_all := lw_g (lw_at lw_m11 143 rfl) rfl
theorem q2676 : (Jvm.Cond.selects "LateInksModel" ({ cls := "LateInksModel", name := "richest", desc := "()I" } : Jvm.MethodName) ({ cls := "LateInksModel", name := "richest", desc := "()I" } : Jvm.MethodName)) ∈ lw_all := lw_g (lw_at lw_m11 144 rfl) rfl
theorem q2677 : (Jvm.Cond.code ({ cls := "LateInksModel", name := "richest", desc := "()I" } : Jvm.MethodName) prog_20_method_117_code (3 : Nat) (Option.some Jvm.ClassFile.FieldType.int)) ∈ lw_all := lw_g (lw_at lw_m11 145 rfl) rfl
theorem q2679 : (Jvm.Cond.instanceMethod ({ cls := "LateInksModel", name := "alike", desc := "()I" } : Jvm.MethodName)) ∈ lw_all := lw_g (lw_at lw_m11 147 rfl) rfl
theorem q2680 : (Jvm.Cond.selects "LateInksModel" ({ cls := "LateInksModel", name := "alike", desc := "()I" } : Jvm.MethodName) ({ cls := "LateInksModel", name := "alike", desc := "()I" } : Jvm.MethodName)) ∈ lw_all := lw_g (lw_at lw_m11 148 rfl) rfl
theorem q2681 : (Jvm.Cond.code ({ cls := "LateInksModel", name := "alike", desc := "()I" } : Jvm.MethodName) prog_20_method_119_code (4 : Nat) (Option.some Jvm.ClassFile.FieldType.int)) ∈ lw_all := lw_g (lw_at lw_m11 149 rfl) rfl
theorem q2682 : (Jvm.Cond.methodLink "LateInksModel" (395 : Nat) ({ cls := "LateInksModel", name := "areAlike", desc := "(II)Z" } : Jvm.MethodName)) ∈ lw_all := lw_g (lw_at lw_m11 150 rfl) rfl
theorem q2683 : (Jvm.Cond.privateMethod ({ cls := "LateInksModel", name := "areAlike", desc := "(II)Z" } : Jvm.MethodName)) ∈ lw_tbl := lw_at lw_m11 151 rfl
theorem q2684 : (Jvm.Cond.instanceMethod ({ cls := "LateInksModel", name := "areAlike", desc := "(II)Z" } : Jvm.MethodName)) ∈ lw_all := lw_g (lw_at lw_m11 152 rfl) rfl
theorem q2685 : (Jvm.Cond.code ({ cls := "LateInksModel", name := "areAlike", desc := "(II)Z" } : Jvm.MethodName) prog_20_method_118_code (5 : Nat) (Option.some Jvm.ClassFile.FieldType.boolean)) ∈ lw_all := lw_g (lw_at lw_m11 153 rfl) rfl
theorem q2687 : (Jvm.Cond.instanceMethod ({ cls := "LateInksModel", name := "broken", desc := "()I" } : Jvm.MethodName)) ∈ lw_all := lw_g (lw_at lw_m11 155 rfl) rfl
theorem q2688 : (Jvm.Cond.selects "LateInksModel" ({ cls := "LateInksModel", name := "broken", desc := "()I" } : Jvm.MethodName) ({ cls := "LateInksModel", name := "broken", desc := "()I" } : Jvm.MethodName)) ∈ lw_all := lw_g (lw_at lw_m11 156 rfl) rfl
theorem q2689 : (Jvm.Cond.code ({ cls := "LateInksModel", name := "broken", desc := "()I" } : Jvm.MethodName) prog_20_method_120_code (1 : Nat) (Option.some Jvm.ClassFile.FieldType.int)) ∈ lw_all := lw_g (lw_at lw_m11 157 rfl) rfl
theorem q2691 : (Jvm.Cond.instanceMethod ({ cls := "LateInksModel", name := "ahead", desc := "(III)I" } : Jvm.MethodName)) ∈ lw_all := lw_g (lw_at lw_m11 159 rfl) rfl
theorem q2692 : (Jvm.Cond.selects "LateInksModel" ({ cls := "LateInksModel", name := "ahead", desc := "(III)I" } : Jvm.MethodName) ({ cls := "LateInksModel", name := "ahead", desc := "(III)I" } : Jvm.MethodName)) ∈ lw_all := lw_g (lw_at lw_m11 160 rfl) rfl
theorem q2693 : (Jvm.Cond.code ({ cls := "LateInksModel", name := "ahead", desc := "(III)I" } : Jvm.MethodName) prog_20_method_121_code (6 : Nat) (Option.some Jvm.ClassFile.FieldType.int)) ∈ lw_all := lw_g (lw_at lw_m11 161 rfl) rfl
theorem q2695 : (Jvm.Cond.instanceMethod ({ cls := "LateInksModel", name := "trial", desc := "(IZ)I" } : Jvm.MethodName)) ∈ lw_all := lw_g (lw_at lw_m11 163 rfl) rfl
theorem q2696 : (Jvm.Cond.selects "LateInksModel" ({ cls := "LateInksModel", name := "trial", desc := "(IZ)I" } : Jvm.MethodName) ({ cls := "LateInksModel", name := "trial", desc := "(IZ)I" } : Jvm.MethodName)) ∈ lw_all := lw_g (lw_at lw_m11 164 rfl) rfl
theorem q2697 : (Jvm.Cond.code ({ cls := "LateInksModel", name := "trial", desc := "(IZ)I" } : Jvm.MethodName) prog_20_method_123_code (5 : Nat) (Option.some Jvm.ClassFile.FieldType.int)) ∈ lw_all := lw_g (lw_at lw_m11 165 rfl) rfl
theorem q2699 : (Jvm.Cond.instanceMethod ({ cls := "LateInksModel", name := "span", desc := "(IZ)I" } : Jvm.MethodName)) ∈ lw_all := lw_g (lw_at lw_m11 167 rfl) rfl
theorem q2700 : (Jvm.Cond.selects "LateInksModel" ({ cls := "LateInksModel", name := "span", desc := "(IZ)I" } : Jvm.MethodName) ({ cls := "LateInksModel", name := "span", desc := "(IZ)I" } : Jvm.MethodName)) ∈ lw_all := lw_g (lw_at lw_m11 168 rfl) rfl
theorem q2701 : (Jvm.Cond.code ({ cls := "LateInksModel", name := "span", desc := "(IZ)I" } : Jvm.MethodName) prog_20_method_124_code (7 : Nat) (Option.some Jvm.ClassFile.FieldType.int)) ∈ lw_all := lw_g (lw_at lw_m11 169 rfl) rfl
theorem q2702 : (Jvm.Cond.methodLink "LateInksModel" (398 : Nat) ({ cls := "LateInksModel", name := "paidOnes", desc := "()I" } : Jvm.MethodName)) ∈ lw_all := lw_g (lw_at lw_m11 170 rfl) rfl
theorem q2703 : (Jvm.Cond.privateMethod ({ cls := "LateInksModel", name := "paidOnes", desc := "()I" } : Jvm.MethodName)) ∈ lw_tbl := lw_at lw_m11 171 rfl
theorem q2704 : (Jvm.Cond.instanceMethod ({ cls := "LateInksModel", name := "paidOnes", desc := "()I" } : Jvm.MethodName)) ∈ lw_all := lw_g (lw_at lw_m11 172 rfl) rfl
theorem q2705 : (Jvm.Cond.code ({ cls := "LateInksModel", name := "paidOnes", desc := "()I" } : Jvm.MethodName) prog_20_method_122_code (3 : Nat) (Option.some Jvm.ClassFile.FieldType.int)) ∈ lw_all := lw_g (lw_at lw_m11 173 rfl) rfl
theorem q2707 : (Jvm.Cond.instanceMethod ({ cls := "LateInksModel", name := "led", desc := "(IZ)I" } : Jvm.MethodName)) ∈ lw_all := lw_g (lw_at lw_m11 175 rfl) rfl
theorem q2708 : (Jvm.Cond.selects "LateInksModel" ({ cls := "LateInksModel", name := "led", desc := "(IZ)I" } : Jvm.MethodName) ({ cls := "LateInksModel", name := "led", desc := "(IZ)I" } : Jvm.MethodName)) ∈ lw_all := lw_g (lw_at lw_m11 176 rfl) rfl
theorem q2709 : (Jvm.Cond.code ({ cls := "LateInksModel", name := "led", desc := "(IZ)I" } : Jvm.MethodName) prog_20_method_126_code (6 : Nat) (Option.some Jvm.ClassFile.FieldType.int)) ∈ lw_all := lw_g (lw_at lw_m11 177 rfl) rfl
theorem q2710 : (Jvm.Cond.methodLink "LateInksModel" (401 : Nat) ({ cls := "LateInksModel", name := "logged", desc := "(II)I" } : Jvm.MethodName)) ∈ lw_all := lw_g (lw_at lw_m11 178 rfl) rfl
theorem q2711 : (Jvm.Cond.privateMethod ({ cls := "LateInksModel", name := "logged", desc := "(II)I" } : Jvm.MethodName)) ∈ lw_tbl := lw_at lw_m11 179 rfl
theorem q2712 : (Jvm.Cond.instanceMethod ({ cls := "LateInksModel", name := "logged", desc := "(II)I" } : Jvm.MethodName)) ∈ lw_all := lw_g (lw_at lw_m11 180 rfl) rfl
theorem q2713 : (Jvm.Cond.code ({ cls := "LateInksModel", name := "logged", desc := "(II)I" } : Jvm.MethodName) prog_20_method_125_code (3 : Nat) (Option.some Jvm.ClassFile.FieldType.int)) ∈ lw_all := lw_g (lw_at lw_m11 181 rfl) rfl
theorem q2715 : (Jvm.Cond.instanceMethod ({ cls := "LateInksModel", name := "log", desc := "(II)I" } : Jvm.MethodName)) ∈ lw_all := lw_g (lw_at lw_m11 183 rfl) rfl
theorem q2716 : (Jvm.Cond.selects "LateInksModel" ({ cls := "LateInksModel", name := "log", desc := "(II)I" } : Jvm.MethodName) ({ cls := "LateInksModel", name := "log", desc := "(II)I" } : Jvm.MethodName)) ∈ lw_all := lw_g (lw_at lw_m11 184 rfl) rfl
theorem q2717 : (Jvm.Cond.code ({ cls := "LateInksModel", name := "log", desc := "(II)I" } : Jvm.MethodName) prog_20_method_127_code (3 : Nat) (Option.some Jvm.ClassFile.FieldType.int)) ∈ lw_all := lw_g (lw_at lw_m11 185 rfl) rfl
theorem q2719 : (Jvm.Cond.instanceMethod ({ cls := "LateInksModel", name := "damp", desc := "(I)I" } : Jvm.MethodName)) ∈ lw_all := lw_g (lw_at lw_m11 187 rfl) rfl
theorem q2720 : (Jvm.Cond.selects "LateInksModel" ({ cls := "LateInksModel", name := "damp", desc := "(I)I" } : Jvm.MethodName) ({ cls := "LateInksModel", name := "damp", desc := "(I)I" } : Jvm.MethodName)) ∈ lw_all := lw_g (lw_at lw_m11 188 rfl) rfl
theorem q2721 : (Jvm.Cond.code ({ cls := "LateInksModel", name := "damp", desc := "(I)I" } : Jvm.MethodName) prog_20_method_128_code (2 : Nat) (Option.some Jvm.ClassFile.FieldType.int)) ∈ lw_all := lw_g (lw_at lw_m11 189 rfl) rfl
theorem q2723 : (Jvm.Cond.instanceMethod ({ cls := "LateInksModel", name := "seed", desc := "(I)I" } : Jvm.MethodName)) ∈ lw_all := lw_g (lw_at lw_m11 191 rfl) rfl
theorem q2724 : (Jvm.Cond.selects "LateInksModel" ({ cls := "LateInksModel", name := "seed", desc := "(I)I" } : Jvm.MethodName) ({ cls := "LateInksModel", name := "seed", desc := "(I)I" } : Jvm.MethodName)) ∈ lw_all := lw_g (lw_at lw_m11 192 rfl) rfl
theorem q2725 : (Jvm.Cond.code ({ cls := "LateInksModel", name := "seed", desc := "(I)I" } : Jvm.MethodName) prog_20_method_129_code (3 : Nat) (Option.some Jvm.ClassFile.FieldType.int)) ∈ lw_all := lw_g (lw_at lw_m11 193 rfl) rfl
theorem q2727 : (Jvm.Cond.instanceMethod ({ cls := "LateInksModel", name := "undo", desc := "()Z" } : Jvm.MethodName)) ∈ lw_all := lw_g (lw_at lw_m11 195 rfl) rfl
theorem q2728 : (Jvm.Cond.selects "LateInksModel" ({ cls := "LateInksModel", name := "undo", desc := "()Z" } : Jvm.MethodName) ({ cls := "LateInksModel", name := "undo", desc := "()Z" } : Jvm.MethodName)) ∈ lw_all := lw_g (lw_at lw_m11 196 rfl) rfl
theorem q2729 : (Jvm.Cond.code ({ cls := "LateInksModel", name := "undo", desc := "()Z" } : Jvm.MethodName) prog_20_method_130_code (2 : Nat) (Option.some Jvm.ClassFile.FieldType.boolean)) ∈ lw_all := lw_g (lw_at lw_m11 197 rfl) rfl
theorem q2731 : (Jvm.Cond.instanceMethod ({ cls := "LateInksModel", name := "image", desc := "()V" } : Jvm.MethodName)) ∈ lw_all := lw_g (lw_at lw_m11 199 rfl) rfl
theorem q2732 : (Jvm.Cond.selects "LateInksModel" ({ cls := "LateInksModel", name := "image", desc := "()V" } : Jvm.MethodName) ({ cls := "LateInksModel", name := "image", desc := "()V" } : Jvm.MethodName)) ∈ lw_all := lw_g (lw_at lw_m11 200 rfl) rfl
theorem q2733 : (Jvm.Cond.code ({ cls := "LateInksModel", name := "image", desc := "()V" } : Jvm.MethodName) prog_20_method_131_code (2 : Nat) (Option.none : Option Jvm.ClassFile.FieldType)) ∈ lw_all := lw_g (lw_at lw_m11 201 rfl) rfl
theorem q2735 : (Jvm.Cond.instanceMethod ({ cls := "LateInksModel", name := "back", desc := "()Z" } : Jvm.MethodName)) ∈ lw_all := lw_g (lw_at lw_m11 203 rfl) rfl
theorem q2736 : (Jvm.Cond.selects "LateInksModel" ({ cls := "LateInksModel", name := "back", desc := "()Z" } : Jvm.MethodName) ({ cls := "LateInksModel", name := "back", desc := "()Z" } : Jvm.MethodName)) ∈ lw_all := lw_g (lw_at lw_m11 204 rfl) rfl
theorem q2737 : (Jvm.Cond.code ({ cls := "LateInksModel", name := "back", desc := "()Z" } : Jvm.MethodName) prog_20_method_132_code (2 : Nat) (Option.some Jvm.ClassFile.FieldType.boolean)) ∈ lw_all := lw_g (lw_at lw_m11 205 rfl) rfl
theorem q2739 : (Jvm.Cond.instanceMethod ({ cls := "LateInksModel", name := "count", desc := "(I)I" } : Jvm.MethodName)) ∈ lw_all := lw_g (lw_at lw_m11 207 rfl) rfl
theorem q2740 : (Jvm.Cond.selects "LateInksModel" ({ cls := "LateInksModel", name := "count", desc := "(I)I" } : Jvm.MethodName) ({ cls := "LateInksModel", name := "count", desc := "(I)I" } : Jvm.MethodName)) ∈ lw_all := lw_g (lw_at lw_m11 208 rfl) rfl
theorem q2741 : (Jvm.Cond.code ({ cls := "LateInksModel", name := "count", desc := "(I)I" } : Jvm.MethodName) prog_20_method_133_code (4 : Nat) (Option.some Jvm.ClassFile.FieldType.int)) ∈ lw_all := lw_g (lw_at lw_m11 209 rfl) rfl
theorem q2764 : (Jvm.Cond.castable "LateInksModel" "java/lang/Object") ∈ lw_tbl := lw_at lw_m11 232 rfl
theorem in_X7 : ∀ w ∈ wsX70, w ∈ lw_all := lw_in wsX70 [2124, 2126, 2128, 2130, 2132, 2134, 2136, 2138, 2140, 2142, 2144, 2146, 2148, 2150, 2152, 2154, 2156, 2158, 2160, 2162, 2164, 2166, 2168, 2170] (by decide +kernel) (by decide +kernel)
