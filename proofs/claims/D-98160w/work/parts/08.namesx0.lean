/-! TubBites -/
set_option maxRecDepth 100000
def RX0 : String := "TubBites"
def TX0 : u_T := fun k => match k with
  | 0 => ("TubBites", "w", "LTubBites$Water;", false)
  | 1 => ("TubBites", "tape", "[B", true)
  | 2 => ("TubBites", "taped", "I", false)
  | 3 => ("TubBites", "time", "I", false)
  | 4 => ("TubBites", "faultKind", "I", false)
  | 5 => ("TubBites", "faultPlace", "I", false)
  | 6 => ("TubBites", "acts", "Ljava/util/ArrayList;", true)
  | 7 => ("TubBites", "undone", "Ljava/util/ArrayList;", true)
  | 8 => ("TubBites", "looks", "I", false)
  | 9 => ("TubBites", "firstTry", "I", false)
  | 10 => ("TubBites", "levels", "[I", true)
  | 11 => ("TubBites", "laidRow", "[I", true)
  | 12 => ("TubBites", "laid", "I", false)
  | 13 => ("TubBites", "orderRow", "[I", true)
  | 14 => ("TubBites", "picks", "Ljava/util/ArrayList;", true)
  | _ => ("TubBites", "boxes", "[LTubBites$Kept;", true)
def tyX0 : Nat → FieldType := fun k => match k with
  | 0 => .object "TubBites$Water"
  | 1 => .array .byte
  | 2 => .int
  | 3 => .int
  | 4 => .int
  | 5 => .int
  | 6 => .object "java/util/ArrayList"
  | 7 => .object "java/util/ArrayList"
  | 8 => .int
  | 9 => .int
  | 10 => .array .int
  | 11 => .array .int
  | 12 => .int
  | 13 => .array .int
  | 14 => .object "java/util/ArrayList"
  | _ => .array (.object "TubBites$Kept")
abbrev wsX00 : List Cond := u_ws RX0 TX0 16
set_option maxRecDepth 100000 in
theorem nmX0 : ∀ a, a < 16 → ∀ b, b < 16 → a ≠ b → (TX0 a).2.1 ≠ (TX0 b).2.1 := by decide +kernel
set_option maxRecDepth 100000 in
theorem tyX0_ok : ∀ k, k < 16 → parseFieldDescriptor (TX0 k).2.2.1 = some (tyX0 k) := by decide +kernel
abbrev cX0_init : ByteArray := prog_1_method_2_code
def yX0_init : MethodName := ⟨RX0, "<init>", "()V"⟩
def dkwX0_init_5 : List UInt8 := [183, 0, 49, 83, 181, 0, 52, 42, 182, 0, 56, 177]
abbrev dktX0_init_5 : List UInt8 := dkwX0_init_5 ++ []
def dkwX0_init_4 : List UInt8 := [89, 1, 183, 0, 49, 83, 89, 4, 187, 0, 47, 89, 1, 183, 0, 49, 83, 89, 5, 187, 0, 47, 89, 1]
abbrev dktX0_init_4 : List UInt8 := dkwX0_init_4 ++ dktX0_init_5
def dkwX0_init_3 : List UInt8 := [181, 0, 41, 42, 187, 0, 24, 89, 183, 0, 26, 181, 0, 44, 42, 6, 189, 0, 47, 89, 3, 187, 0, 47]
abbrev dktX0_init_3 : List UInt8 := dkwX0_init_3 ++ dktX0_init_4
def dkwX0_init_2 : List UInt8 := [181, 0, 31, 42, 17, 4, 206, 188, 10, 181, 0, 34, 42, 16, 36, 188, 10, 181, 0, 38, 42, 7, 188, 10]
abbrev dktX0_init_2 : List UInt8 := dkwX0_init_2 ++ dktX0_init_3
def dkwX0_init_1 : List UInt8 := [42, 2, 181, 0, 20, 42, 187, 0, 24, 89, 183, 0, 26, 181, 0, 27, 42, 187, 0, 24, 89, 183, 0, 26]
abbrev dktX0_init_1 : List UInt8 := dkwX0_init_1 ++ dktX0_init_2
def dkwX0_init_0 : List UInt8 := [42, 183, 0, 3, 42, 187, 0, 9, 89, 183, 0, 11, 181, 0, 12, 42, 17, 6, 64, 188, 8, 181, 0, 16]
abbrev dktX0_init_0 : List UInt8 := dkwX0_init_0 ++ dktX0_init_1
theorem dksX0_init_0 : cX0_init.data.toList.drop 0 = dktX0_init_0 := by decide +kernel
theorem dksX0_init_1 : cX0_init.data.toList.drop 24 = dktX0_init_1 := dk_seg dksX0_init_0 24 rfl rfl
theorem dksX0_init_2 : cX0_init.data.toList.drop 48 = dktX0_init_2 := dk_seg dksX0_init_1 24 rfl rfl
theorem dksX0_init_3 : cX0_init.data.toList.drop 72 = dktX0_init_3 := dk_seg dksX0_init_2 24 rfl rfl
theorem dksX0_init_4 : cX0_init.data.toList.drop 96 = dktX0_init_4 := dk_seg dksX0_init_3 24 rfl rfl
theorem dksX0_init_5 : cX0_init.data.toList.drop 120 = dktX0_init_5 := dk_seg dksX0_init_4 24 rfl rfl
theorem dX0_init_0 : decode cX0_init 0 = .ok (.aload_n 0, 1) := dk_42 (dk_at dksX0_init_0 0 rfl rfl)
theorem dX0_init_1 : decode cX0_init 1 = .ok (.invokespecial 3, 3) := dk_183 0 3 (dk_at dksX0_init_0 1 rfl rfl)
theorem dX0_init_4 : decode cX0_init 4 = .ok (.aload_n 0, 1) := dk_42 (dk_at dksX0_init_0 4 rfl rfl)
theorem dX0_init_5 : decode cX0_init 5 = .ok (.new 9, 3) := dk_187 0 9 (dk_at dksX0_init_0 5 rfl rfl)
theorem dX0_init_8 : decode cX0_init 8 = .ok (.dup, 1) := dk_89 (dk_at dksX0_init_0 8 rfl rfl)
theorem dX0_init_9 : decode cX0_init 9 = .ok (.invokespecial 11, 3) := dk_183 0 11 (dk_at dksX0_init_0 9 rfl rfl)
theorem dX0_init_12 : decode cX0_init 12 = .ok (.putfield 12, 3) := dk_181 0 12 (dk_at dksX0_init_0 12 rfl rfl)
theorem dX0_init_15 : decode cX0_init 15 = .ok (.aload_n 0, 1) := dk_42 (dk_at dksX0_init_0 15 rfl rfl)
theorem dX0_init_16 : decode cX0_init 16 = .ok (.sipush 1600, 3) := dk_17 6 64 (dk_at dksX0_init_0 16 rfl rfl)
theorem dX0_init_19 : decode cX0_init 19 = .ok (.newarray .byte, 2) := dk_188_8 (dk_at dksX0_init_0 19 rfl rfl)
theorem dX0_init_21 : decode cX0_init 21 = .ok (.putfield 16, 3) := dk_181 0 16 (dk_at dksX0_init_0 21 rfl rfl)
theorem dX0_init_24 : decode cX0_init 24 = .ok (.aload_n 0, 1) := dk_42 (dk_at dksX0_init_1 0 rfl rfl)
theorem dX0_init_25 : decode cX0_init 25 = .ok (.iconst (-1), 1) := dk_2 (dk_at dksX0_init_1 1 rfl rfl)
theorem dX0_init_26 : decode cX0_init 26 = .ok (.putfield 20, 3) := dk_181 0 20 (dk_at dksX0_init_1 2 rfl rfl)
theorem dX0_init_29 : decode cX0_init 29 = .ok (.aload_n 0, 1) := dk_42 (dk_at dksX0_init_1 5 rfl rfl)
theorem dX0_init_30 : decode cX0_init 30 = .ok (.new 24, 3) := dk_187 0 24 (dk_at dksX0_init_1 6 rfl rfl)
theorem dX0_init_33 : decode cX0_init 33 = .ok (.dup, 1) := dk_89 (dk_at dksX0_init_1 9 rfl rfl)
theorem dX0_init_34 : decode cX0_init 34 = .ok (.invokespecial 26, 3) := dk_183 0 26 (dk_at dksX0_init_1 10 rfl rfl)
theorem dX0_init_37 : decode cX0_init 37 = .ok (.putfield 27, 3) := dk_181 0 27 (dk_at dksX0_init_1 13 rfl rfl)
theorem dX0_init_40 : decode cX0_init 40 = .ok (.aload_n 0, 1) := dk_42 (dk_at dksX0_init_1 16 rfl rfl)
theorem dX0_init_41 : decode cX0_init 41 = .ok (.new 24, 3) := dk_187 0 24 (dk_at dksX0_init_1 17 rfl rfl)
theorem dX0_init_44 : decode cX0_init 44 = .ok (.dup, 1) := dk_89 (dk_at dksX0_init_1 20 rfl rfl)
theorem dX0_init_45 : decode cX0_init 45 = .ok (.invokespecial 26, 3) := dk_183 0 26 (dk_at dksX0_init_1 21 rfl rfl)
theorem dX0_init_48 : decode cX0_init 48 = .ok (.putfield 31, 3) := dk_181 0 31 (dk_at dksX0_init_2 0 rfl rfl)
theorem dX0_init_51 : decode cX0_init 51 = .ok (.aload_n 0, 1) := dk_42 (dk_at dksX0_init_2 3 rfl rfl)
theorem dX0_init_52 : decode cX0_init 52 = .ok (.sipush 1230, 3) := dk_17 4 206 (dk_at dksX0_init_2 4 rfl rfl)
theorem dX0_init_55 : decode cX0_init 55 = .ok (.newarray .int, 2) := dk_188_10 (dk_at dksX0_init_2 7 rfl rfl)
theorem dX0_init_57 : decode cX0_init 57 = .ok (.putfield 34, 3) := dk_181 0 34 (dk_at dksX0_init_2 9 rfl rfl)
theorem dX0_init_60 : decode cX0_init 60 = .ok (.aload_n 0, 1) := dk_42 (dk_at dksX0_init_2 12 rfl rfl)
theorem dX0_init_61 : decode cX0_init 61 = .ok (.bipush 36, 2) := dk_16 36 (dk_at dksX0_init_2 13 rfl rfl)
theorem dX0_init_63 : decode cX0_init 63 = .ok (.newarray .int, 2) := dk_188_10 (dk_at dksX0_init_2 15 rfl rfl)
theorem dX0_init_65 : decode cX0_init 65 = .ok (.putfield 38, 3) := dk_181 0 38 (dk_at dksX0_init_2 17 rfl rfl)
theorem dX0_init_68 : decode cX0_init 68 = .ok (.aload_n 0, 1) := dk_42 (dk_at dksX0_init_2 20 rfl rfl)
theorem dX0_init_69 : decode cX0_init 69 = .ok (.iconst 4, 1) := dk_7 (dk_at dksX0_init_2 21 rfl rfl)
theorem dX0_init_70 : decode cX0_init 70 = .ok (.newarray .int, 2) := dk_188_10 (dk_at dksX0_init_2 22 rfl rfl)
theorem dX0_init_72 : decode cX0_init 72 = .ok (.putfield 41, 3) := dk_181 0 41 (dk_at dksX0_init_3 0 rfl rfl)
theorem dX0_init_75 : decode cX0_init 75 = .ok (.aload_n 0, 1) := dk_42 (dk_at dksX0_init_3 3 rfl rfl)
theorem dX0_init_76 : decode cX0_init 76 = .ok (.new 24, 3) := dk_187 0 24 (dk_at dksX0_init_3 4 rfl rfl)
theorem dX0_init_79 : decode cX0_init 79 = .ok (.dup, 1) := dk_89 (dk_at dksX0_init_3 7 rfl rfl)
theorem dX0_init_80 : decode cX0_init 80 = .ok (.invokespecial 26, 3) := dk_183 0 26 (dk_at dksX0_init_3 8 rfl rfl)
theorem dX0_init_83 : decode cX0_init 83 = .ok (.putfield 44, 3) := dk_181 0 44 (dk_at dksX0_init_3 11 rfl rfl)
theorem dX0_init_86 : decode cX0_init 86 = .ok (.aload_n 0, 1) := dk_42 (dk_at dksX0_init_3 14 rfl rfl)
theorem dX0_init_87 : decode cX0_init 87 = .ok (.iconst 3, 1) := dk_6 (dk_at dksX0_init_3 15 rfl rfl)
theorem dX0_init_88 : decode cX0_init 88 = .ok (.anewarray 47, 3) := dk_189 0 47 (dk_at dksX0_init_3 16 rfl rfl)
theorem dX0_init_91 : decode cX0_init 91 = .ok (.dup, 1) := dk_89 (dk_at dksX0_init_3 19 rfl rfl)
theorem dX0_init_92 : decode cX0_init 92 = .ok (.iconst 0, 1) := dk_3 (dk_at dksX0_init_3 20 rfl rfl)
theorem dX0_init_93 : decode cX0_init 93 = .ok (.new 47, 3) := dk_187 0 47 (dk_at dksX0_init_3 21 rfl rfl)
theorem dX0_init_96 : decode cX0_init 96 = .ok (.dup, 1) := dk_89 (dk_at dksX0_init_4 0 rfl rfl)
theorem dX0_init_97 : decode cX0_init 97 = .ok (.aconst_null, 1) := dk_1 (dk_at dksX0_init_4 1 rfl rfl)
theorem dX0_init_98 : decode cX0_init 98 = .ok (.invokespecial 49, 3) := dk_183 0 49 (dk_at dksX0_init_4 2 rfl rfl)
theorem dX0_init_101 : decode cX0_init 101 = .ok (.aastore, 1) := dk_83 (dk_at dksX0_init_4 5 rfl rfl)
theorem dX0_init_102 : decode cX0_init 102 = .ok (.dup, 1) := dk_89 (dk_at dksX0_init_4 6 rfl rfl)
theorem dX0_init_103 : decode cX0_init 103 = .ok (.iconst 1, 1) := dk_4 (dk_at dksX0_init_4 7 rfl rfl)
theorem dX0_init_104 : decode cX0_init 104 = .ok (.new 47, 3) := dk_187 0 47 (dk_at dksX0_init_4 8 rfl rfl)
theorem dX0_init_107 : decode cX0_init 107 = .ok (.dup, 1) := dk_89 (dk_at dksX0_init_4 11 rfl rfl)
theorem dX0_init_108 : decode cX0_init 108 = .ok (.aconst_null, 1) := dk_1 (dk_at dksX0_init_4 12 rfl rfl)
theorem dX0_init_109 : decode cX0_init 109 = .ok (.invokespecial 49, 3) := dk_183 0 49 (dk_at dksX0_init_4 13 rfl rfl)
theorem dX0_init_112 : decode cX0_init 112 = .ok (.aastore, 1) := dk_83 (dk_at dksX0_init_4 16 rfl rfl)
theorem dX0_init_113 : decode cX0_init 113 = .ok (.dup, 1) := dk_89 (dk_at dksX0_init_4 17 rfl rfl)
theorem dX0_init_114 : decode cX0_init 114 = .ok (.iconst 2, 1) := dk_5 (dk_at dksX0_init_4 18 rfl rfl)
theorem dX0_init_115 : decode cX0_init 115 = .ok (.new 47, 3) := dk_187 0 47 (dk_at dksX0_init_4 19 rfl rfl)
theorem dX0_init_118 : decode cX0_init 118 = .ok (.dup, 1) := dk_89 (dk_at dksX0_init_4 22 rfl rfl)
theorem dX0_init_119 : decode cX0_init 119 = .ok (.aconst_null, 1) := dk_1 (dk_at dksX0_init_4 23 rfl rfl)
theorem dX0_init_120 : decode cX0_init 120 = .ok (.invokespecial 49, 3) := dk_183 0 49 (dk_at dksX0_init_5 0 rfl rfl)
theorem dX0_init_123 : decode cX0_init 123 = .ok (.aastore, 1) := dk_83 (dk_at dksX0_init_5 3 rfl rfl)
theorem dX0_init_124 : decode cX0_init 124 = .ok (.putfield 52, 3) := dk_181 0 52 (dk_at dksX0_init_5 4 rfl rfl)
theorem dX0_init_127 : decode cX0_init 127 = .ok (.aload_n 0, 1) := dk_42 (dk_at dksX0_init_5 7 rfl rfl)
theorem dX0_init_128 : decode cX0_init 128 = .ok (.invokevirtual 56, 3) := dk_182 0 56 (dk_at dksX0_init_5 8 rfl rfl)
theorem dX0_init_131 : decode cX0_init 131 = .ok (.return_, 1) := dk_177 (dk_at dksX0_init_5 11 rfl rfl)
abbrev cX0_begin : ByteArray := prog_1_method_3_code
def yX0_begin : MethodName := ⟨RX0, "begin", "()V"⟩
def dkwX0_begin_2 : List UInt8 := [167, 255, 238, 177]
abbrev dktX0_begin_2 : List UInt8 := dkwX0_begin_2 ++ []
def dkwX0_begin_1 : List UInt8 := [181, 0, 62, 3, 60, 27, 6, 162, 0, 19, 42, 180, 0, 52, 27, 50, 1, 181, 0, 65, 132, 1, 1]
abbrev dktX0_begin_1 : List UInt8 := dkwX0_begin_1 ++ dktX0_begin_2
def dkwX0_begin_0 : List UInt8 := [42, 180, 0, 27, 182, 0, 59, 42, 180, 0, 31, 182, 0, 59, 42, 180, 0, 44, 182, 0, 59, 42, 3]
abbrev dktX0_begin_0 : List UInt8 := dkwX0_begin_0 ++ dktX0_begin_1
theorem dksX0_begin_0 : cX0_begin.data.toList.drop 0 = dktX0_begin_0 := by decide +kernel
theorem dksX0_begin_1 : cX0_begin.data.toList.drop 23 = dktX0_begin_1 := dk_seg dksX0_begin_0 23 rfl rfl
theorem dksX0_begin_2 : cX0_begin.data.toList.drop 46 = dktX0_begin_2 := dk_seg dksX0_begin_1 23 rfl rfl
theorem dX0_begin_0 : decode cX0_begin 0 = .ok (.aload_n 0, 1) := dk_42 (dk_at dksX0_begin_0 0 rfl rfl)
theorem dX0_begin_1 : decode cX0_begin 1 = .ok (.getfield 27, 3) := dk_180 0 27 (dk_at dksX0_begin_0 1 rfl rfl)
theorem dX0_begin_4 : decode cX0_begin 4 = .ok (.invokevirtual 59, 3) := dk_182 0 59 (dk_at dksX0_begin_0 4 rfl rfl)
theorem dX0_begin_7 : decode cX0_begin 7 = .ok (.aload_n 0, 1) := dk_42 (dk_at dksX0_begin_0 7 rfl rfl)
theorem dX0_begin_8 : decode cX0_begin 8 = .ok (.getfield 31, 3) := dk_180 0 31 (dk_at dksX0_begin_0 8 rfl rfl)
theorem dX0_begin_11 : decode cX0_begin 11 = .ok (.invokevirtual 59, 3) := dk_182 0 59 (dk_at dksX0_begin_0 11 rfl rfl)
theorem dX0_begin_14 : decode cX0_begin 14 = .ok (.aload_n 0, 1) := dk_42 (dk_at dksX0_begin_0 14 rfl rfl)
theorem dX0_begin_15 : decode cX0_begin 15 = .ok (.getfield 44, 3) := dk_180 0 44 (dk_at dksX0_begin_0 15 rfl rfl)
theorem dX0_begin_18 : decode cX0_begin 18 = .ok (.invokevirtual 59, 3) := dk_182 0 59 (dk_at dksX0_begin_0 18 rfl rfl)
theorem dX0_begin_21 : decode cX0_begin 21 = .ok (.aload_n 0, 1) := dk_42 (dk_at dksX0_begin_0 21 rfl rfl)
theorem dX0_begin_22 : decode cX0_begin 22 = .ok (.iconst 0, 1) := dk_3 (dk_at dksX0_begin_0 22 rfl rfl)
theorem dX0_begin_23 : decode cX0_begin 23 = .ok (.putfield 62, 3) := dk_181 0 62 (dk_at dksX0_begin_1 0 rfl rfl)
theorem dX0_begin_26 : decode cX0_begin 26 = .ok (.iconst 0, 1) := dk_3 (dk_at dksX0_begin_1 3 rfl rfl)
theorem dX0_begin_27 : decode cX0_begin 27 = .ok (.istore_n 1, 1) := dk_60 (dk_at dksX0_begin_1 4 rfl rfl)
theorem dX0_begin_28 : decode cX0_begin 28 = .ok (.iload_n 1, 1) := dk_27 (dk_at dksX0_begin_1 5 rfl rfl)
theorem dX0_begin_29 : decode cX0_begin 29 = .ok (.iconst 3, 1) := dk_6 (dk_at dksX0_begin_1 6 rfl rfl)
theorem dX0_begin_30 : decode cX0_begin 30 = .ok (.if_icmp .ge 19, 3) := dk_162 0 19 (dk_at dksX0_begin_1 7 rfl rfl)
theorem dX0_begin_33 : decode cX0_begin 33 = .ok (.aload_n 0, 1) := dk_42 (dk_at dksX0_begin_1 10 rfl rfl)
theorem dX0_begin_34 : decode cX0_begin 34 = .ok (.getfield 52, 3) := dk_180 0 52 (dk_at dksX0_begin_1 11 rfl rfl)
theorem dX0_begin_37 : decode cX0_begin 37 = .ok (.iload_n 1, 1) := dk_27 (dk_at dksX0_begin_1 14 rfl rfl)
theorem dX0_begin_38 : decode cX0_begin 38 = .ok (.aaload, 1) := dk_50 (dk_at dksX0_begin_1 15 rfl rfl)
theorem dX0_begin_39 : decode cX0_begin 39 = .ok (.aconst_null, 1) := dk_1 (dk_at dksX0_begin_1 16 rfl rfl)
theorem dX0_begin_40 : decode cX0_begin 40 = .ok (.putfield 65, 3) := dk_181 0 65 (dk_at dksX0_begin_1 17 rfl rfl)
theorem dX0_begin_43 : decode cX0_begin 43 = .ok (.iinc 1 1, 3) := dk_132 1 1 (dk_at dksX0_begin_1 20 rfl rfl)
theorem dX0_begin_46 : decode cX0_begin 46 = .ok (.goto (-18), 3) := dk_167 255 238 (dk_at dksX0_begin_2 0 rfl rfl)
theorem dX0_begin_49 : decode cX0_begin 49 = .ok (.return_, 1) := dk_177 (dk_at dksX0_begin_2 3 rfl rfl)
abbrev cX0_feed : ByteArray := prog_1_method_10_code
def yX0_feed : MethodName := ⟨RX0, "feed", "(IIIII)I"⟩
def dkwX0_feed_2 : List UInt8 := [172]
abbrev dktX0_feed_2 : List UInt8 := dkwX0_feed_2 ++ []
def dkwX0_feed_1 : List UInt8 := [182, 0, 117, 42, 29, 182, 0, 117, 42, 21, 4, 182, 0, 117, 42, 21, 5, 182, 0, 117, 42, 180, 0, 114]
abbrev dktX0_feed_1 : List UInt8 := dkwX0_feed_1 ++ dktX0_feed_2
def dkwX0_feed_0 : List UInt8 := [42, 180, 0, 114, 16, 20, 96, 17, 6, 64, 164, 0, 5, 2, 172, 42, 27, 182, 0, 117, 42, 28]
abbrev dktX0_feed_0 : List UInt8 := dkwX0_feed_0 ++ dktX0_feed_1
theorem dksX0_feed_0 : cX0_feed.data.toList.drop 0 = dktX0_feed_0 := by decide +kernel
theorem dksX0_feed_1 : cX0_feed.data.toList.drop 22 = dktX0_feed_1 := dk_seg dksX0_feed_0 22 rfl rfl
theorem dksX0_feed_2 : cX0_feed.data.toList.drop 46 = dktX0_feed_2 := dk_seg dksX0_feed_1 24 rfl rfl
theorem dX0_feed_0 : decode cX0_feed 0 = .ok (.aload_n 0, 1) := dk_42 (dk_at dksX0_feed_0 0 rfl rfl)
theorem dX0_feed_1 : decode cX0_feed 1 = .ok (.getfield 114, 3) := dk_180 0 114 (dk_at dksX0_feed_0 1 rfl rfl)
theorem dX0_feed_4 : decode cX0_feed 4 = .ok (.bipush 20, 2) := dk_16 20 (dk_at dksX0_feed_0 4 rfl rfl)
theorem dX0_feed_6 : decode cX0_feed 6 = .ok (.iadd, 1) := dk_96 (dk_at dksX0_feed_0 6 rfl rfl)
theorem dX0_feed_7 : decode cX0_feed 7 = .ok (.sipush 1600, 3) := dk_17 6 64 (dk_at dksX0_feed_0 7 rfl rfl)
theorem dX0_feed_10 : decode cX0_feed 10 = .ok (.if_icmp .le 5, 3) := dk_164 0 5 (dk_at dksX0_feed_0 10 rfl rfl)
theorem dX0_feed_13 : decode cX0_feed 13 = .ok (.iconst (-1), 1) := dk_2 (dk_at dksX0_feed_0 13 rfl rfl)
theorem dX0_feed_14 : decode cX0_feed 14 = .ok (.ireturn, 1) := dk_172 (dk_at dksX0_feed_0 14 rfl rfl)
theorem dX0_feed_15 : decode cX0_feed 15 = .ok (.aload_n 0, 1) := dk_42 (dk_at dksX0_feed_0 15 rfl rfl)
theorem dX0_feed_16 : decode cX0_feed 16 = .ok (.iload_n 1, 1) := dk_27 (dk_at dksX0_feed_0 16 rfl rfl)
theorem dX0_feed_17 : decode cX0_feed 17 = .ok (.invokevirtual 117, 3) := dk_182 0 117 (dk_at dksX0_feed_0 17 rfl rfl)
theorem dX0_feed_20 : decode cX0_feed 20 = .ok (.aload_n 0, 1) := dk_42 (dk_at dksX0_feed_0 20 rfl rfl)
theorem dX0_feed_21 : decode cX0_feed 21 = .ok (.iload_n 2, 1) := dk_28 (dk_at dksX0_feed_0 21 rfl rfl)
theorem dX0_feed_22 : decode cX0_feed 22 = .ok (.invokevirtual 117, 3) := dk_182 0 117 (dk_at dksX0_feed_1 0 rfl rfl)
theorem dX0_feed_25 : decode cX0_feed 25 = .ok (.aload_n 0, 1) := dk_42 (dk_at dksX0_feed_1 3 rfl rfl)
theorem dX0_feed_26 : decode cX0_feed 26 = .ok (.iload_n 3, 1) := dk_29 (dk_at dksX0_feed_1 4 rfl rfl)
theorem dX0_feed_27 : decode cX0_feed 27 = .ok (.invokevirtual 117, 3) := dk_182 0 117 (dk_at dksX0_feed_1 5 rfl rfl)
theorem dX0_feed_30 : decode cX0_feed 30 = .ok (.aload_n 0, 1) := dk_42 (dk_at dksX0_feed_1 8 rfl rfl)
theorem dX0_feed_31 : decode cX0_feed 31 = .ok (.iload 4, 2) := dk_21 4 (dk_at dksX0_feed_1 9 rfl rfl)
theorem dX0_feed_33 : decode cX0_feed 33 = .ok (.invokevirtual 117, 3) := dk_182 0 117 (dk_at dksX0_feed_1 11 rfl rfl)
theorem dX0_feed_36 : decode cX0_feed 36 = .ok (.aload_n 0, 1) := dk_42 (dk_at dksX0_feed_1 14 rfl rfl)
theorem dX0_feed_37 : decode cX0_feed 37 = .ok (.iload 5, 2) := dk_21 5 (dk_at dksX0_feed_1 15 rfl rfl)
theorem dX0_feed_39 : decode cX0_feed 39 = .ok (.invokevirtual 117, 3) := dk_182 0 117 (dk_at dksX0_feed_1 17 rfl rfl)
theorem dX0_feed_42 : decode cX0_feed 42 = .ok (.aload_n 0, 1) := dk_42 (dk_at dksX0_feed_1 20 rfl rfl)
theorem dX0_feed_43 : decode cX0_feed 43 = .ok (.getfield 114, 3) := dk_180 0 114 (dk_at dksX0_feed_1 21 rfl rfl)
theorem dX0_feed_46 : decode cX0_feed 46 = .ok (.ireturn, 1) := dk_172 (dk_at dksX0_feed_2 0 rfl rfl)
abbrev cX0_bytes : ByteArray := prog_1_method_11_code
def yX0_bytes : MethodName := ⟨RX0, "bytes", "(I)V"⟩
def dkwX0_bytes_1 : List UInt8 := [180, 0, 114, 4, 96, 181, 0, 114, 132, 2, 248, 167, 255, 226, 177]
abbrev dktX0_bytes_1 : List UInt8 := dkwX0_bytes_1 ++ []
def dkwX0_bytes_0 : List UInt8 := [16, 24, 61, 28, 155, 0, 32, 42, 180, 0, 16, 42, 180, 0, 114, 27, 28, 122, 145, 84, 42, 89]
abbrev dktX0_bytes_0 : List UInt8 := dkwX0_bytes_0 ++ dktX0_bytes_1
theorem dksX0_bytes_0 : cX0_bytes.data.toList.drop 0 = dktX0_bytes_0 := by decide +kernel
theorem dksX0_bytes_1 : cX0_bytes.data.toList.drop 22 = dktX0_bytes_1 := dk_seg dksX0_bytes_0 22 rfl rfl
theorem dX0_bytes_0 : decode cX0_bytes 0 = .ok (.bipush 24, 2) := dk_16 24 (dk_at dksX0_bytes_0 0 rfl rfl)
theorem dX0_bytes_2 : decode cX0_bytes 2 = .ok (.istore_n 2, 1) := dk_61 (dk_at dksX0_bytes_0 2 rfl rfl)
theorem dX0_bytes_3 : decode cX0_bytes 3 = .ok (.iload_n 2, 1) := dk_28 (dk_at dksX0_bytes_0 3 rfl rfl)
theorem dX0_bytes_4 : decode cX0_bytes 4 = .ok (.ifCond .lt 32, 3) := dk_155 0 32 (dk_at dksX0_bytes_0 4 rfl rfl)
theorem dX0_bytes_7 : decode cX0_bytes 7 = .ok (.aload_n 0, 1) := dk_42 (dk_at dksX0_bytes_0 7 rfl rfl)
theorem dX0_bytes_8 : decode cX0_bytes 8 = .ok (.getfield 16, 3) := dk_180 0 16 (dk_at dksX0_bytes_0 8 rfl rfl)
theorem dX0_bytes_11 : decode cX0_bytes 11 = .ok (.aload_n 0, 1) := dk_42 (dk_at dksX0_bytes_0 11 rfl rfl)
theorem dX0_bytes_12 : decode cX0_bytes 12 = .ok (.getfield 114, 3) := dk_180 0 114 (dk_at dksX0_bytes_0 12 rfl rfl)
theorem dX0_bytes_15 : decode cX0_bytes 15 = .ok (.iload_n 1, 1) := dk_27 (dk_at dksX0_bytes_0 15 rfl rfl)
theorem dX0_bytes_16 : decode cX0_bytes 16 = .ok (.iload_n 2, 1) := dk_28 (dk_at dksX0_bytes_0 16 rfl rfl)
theorem dX0_bytes_17 : decode cX0_bytes 17 = .ok (.ishr, 1) := dk_122 (dk_at dksX0_bytes_0 17 rfl rfl)
theorem dX0_bytes_18 : decode cX0_bytes 18 = .ok (.i2b, 1) := dk_145 (dk_at dksX0_bytes_0 18 rfl rfl)
theorem dX0_bytes_19 : decode cX0_bytes 19 = .ok (.bastore, 1) := dk_84 (dk_at dksX0_bytes_0 19 rfl rfl)
theorem dX0_bytes_20 : decode cX0_bytes 20 = .ok (.aload_n 0, 1) := dk_42 (dk_at dksX0_bytes_0 20 rfl rfl)
theorem dX0_bytes_21 : decode cX0_bytes 21 = .ok (.dup, 1) := dk_89 (dk_at dksX0_bytes_0 21 rfl rfl)
theorem dX0_bytes_22 : decode cX0_bytes 22 = .ok (.getfield 114, 3) := dk_180 0 114 (dk_at dksX0_bytes_1 0 rfl rfl)
theorem dX0_bytes_25 : decode cX0_bytes 25 = .ok (.iconst 1, 1) := dk_4 (dk_at dksX0_bytes_1 3 rfl rfl)
theorem dX0_bytes_26 : decode cX0_bytes 26 = .ok (.iadd, 1) := dk_96 (dk_at dksX0_bytes_1 4 rfl rfl)
theorem dX0_bytes_27 : decode cX0_bytes 27 = .ok (.putfield 114, 3) := dk_181 0 114 (dk_at dksX0_bytes_1 5 rfl rfl)
theorem dX0_bytes_30 : decode cX0_bytes 30 = .ok (.iinc 2 (-8), 3) := dk_132 2 248 (dk_at dksX0_bytes_1 8 rfl rfl)
theorem dX0_bytes_33 : decode cX0_bytes 33 = .ok (.goto (-30), 3) := dk_167 255 226 (dk_at dksX0_bytes_1 11 rfl rfl)
theorem dX0_bytes_36 : decode cX0_bytes 36 = .ok (.return_, 1) := dk_177 (dk_at dksX0_bytes_1 14 rfl rfl)
abbrev cX0_end : ByteArray := prog_1_method_12_code
def yX0_end : MethodName := ⟨RX0, "end", "(I)I"⟩
def dkwX0_end_0 : List UInt8 := [27, 155, 0, 11, 27, 42, 180, 0, 114, 164, 0, 5, 2, 172, 42, 27, 181, 0, 114, 27, 172]
abbrev dktX0_end_0 : List UInt8 := dkwX0_end_0 ++ []
theorem dksX0_end_0 : cX0_end.data.toList.drop 0 = dktX0_end_0 := by decide +kernel
theorem dX0_end_0 : decode cX0_end 0 = .ok (.iload_n 1, 1) := dk_27 (dk_at dksX0_end_0 0 rfl rfl)
theorem dX0_end_1 : decode cX0_end 1 = .ok (.ifCond .lt 11, 3) := dk_155 0 11 (dk_at dksX0_end_0 1 rfl rfl)
theorem dX0_end_4 : decode cX0_end 4 = .ok (.iload_n 1, 1) := dk_27 (dk_at dksX0_end_0 4 rfl rfl)
theorem dX0_end_5 : decode cX0_end 5 = .ok (.aload_n 0, 1) := dk_42 (dk_at dksX0_end_0 5 rfl rfl)
theorem dX0_end_6 : decode cX0_end 6 = .ok (.getfield 114, 3) := dk_180 0 114 (dk_at dksX0_end_0 6 rfl rfl)
theorem dX0_end_9 : decode cX0_end 9 = .ok (.if_icmp .le 5, 3) := dk_164 0 5 (dk_at dksX0_end_0 9 rfl rfl)
theorem dX0_end_12 : decode cX0_end 12 = .ok (.iconst (-1), 1) := dk_2 (dk_at dksX0_end_0 12 rfl rfl)
theorem dX0_end_13 : decode cX0_end 13 = .ok (.ireturn, 1) := dk_172 (dk_at dksX0_end_0 13 rfl rfl)
theorem dX0_end_14 : decode cX0_end 14 = .ok (.aload_n 0, 1) := dk_42 (dk_at dksX0_end_0 14 rfl rfl)
theorem dX0_end_15 : decode cX0_end 15 = .ok (.iload_n 1, 1) := dk_27 (dk_at dksX0_end_0 15 rfl rfl)
theorem dX0_end_16 : decode cX0_end 16 = .ok (.putfield 114, 3) := dk_181 0 114 (dk_at dksX0_end_0 16 rfl rfl)
theorem dX0_end_19 : decode cX0_end 19 = .ok (.iload_n 1, 1) := dk_27 (dk_at dksX0_end_0 19 rfl rfl)
theorem dX0_end_20 : decode cX0_end 20 = .ok (.ireturn, 1) := dk_172 (dk_at dksX0_end_0 20 rfl rfl)
abbrev cX0_tub : ByteArray := prog_1_method_13_code
def yX0_tub : MethodName := ⟨RX0, "tub", "()I"⟩
def dkwX0_tub_3 : List UInt8 := [182, 0, 68, 172]
abbrev dktX0_tub_3 : List UInt8 := dkwX0_tub_3 ++ []
def dkwX0_tub_2 : List UInt8 := [181, 0, 121, 42, 44, 180, 0, 138, 181, 0, 20, 2, 172, 42, 182, 0, 56, 42, 180, 0, 12, 180, 0, 87]
abbrev dktX0_tub_2 : List UInt8 := dkwX0_tub_2 ++ dktX0_tub_3
def dkwX0_tub_1 : List UInt8 := [89, 42, 180, 0, 16, 27, 183, 0, 126, 182, 0, 129, 181, 0, 12, 167, 0, 22, 77, 42, 44, 180, 0, 135]
abbrev dktX0_tub_1 : List UInt8 := dkwX0_tub_1 ++ dktX0_tub_2
def dkwX0_tub_0 : List UInt8 := [42, 180, 0, 114, 60, 42, 3, 181, 0, 114, 42, 3, 181, 0, 121, 42, 2, 181, 0, 20, 42, 187, 0, 124]
abbrev dktX0_tub_0 : List UInt8 := dkwX0_tub_0 ++ dktX0_tub_1
theorem dksX0_tub_0 : cX0_tub.data.toList.drop 0 = dktX0_tub_0 := by decide +kernel
theorem dksX0_tub_1 : cX0_tub.data.toList.drop 24 = dktX0_tub_1 := dk_seg dksX0_tub_0 24 rfl rfl
theorem dksX0_tub_2 : cX0_tub.data.toList.drop 48 = dktX0_tub_2 := dk_seg dksX0_tub_1 24 rfl rfl
theorem dksX0_tub_3 : cX0_tub.data.toList.drop 72 = dktX0_tub_3 := dk_seg dksX0_tub_2 24 rfl rfl
theorem dX0_tub_0 : decode cX0_tub 0 = .ok (.aload_n 0, 1) := dk_42 (dk_at dksX0_tub_0 0 rfl rfl)
theorem dX0_tub_1 : decode cX0_tub 1 = .ok (.getfield 114, 3) := dk_180 0 114 (dk_at dksX0_tub_0 1 rfl rfl)
theorem dX0_tub_4 : decode cX0_tub 4 = .ok (.istore_n 1, 1) := dk_60 (dk_at dksX0_tub_0 4 rfl rfl)
theorem dX0_tub_5 : decode cX0_tub 5 = .ok (.aload_n 0, 1) := dk_42 (dk_at dksX0_tub_0 5 rfl rfl)
theorem dX0_tub_6 : decode cX0_tub 6 = .ok (.iconst 0, 1) := dk_3 (dk_at dksX0_tub_0 6 rfl rfl)
theorem dX0_tub_7 : decode cX0_tub 7 = .ok (.putfield 114, 3) := dk_181 0 114 (dk_at dksX0_tub_0 7 rfl rfl)
theorem dX0_tub_10 : decode cX0_tub 10 = .ok (.aload_n 0, 1) := dk_42 (dk_at dksX0_tub_0 10 rfl rfl)
theorem dX0_tub_11 : decode cX0_tub 11 = .ok (.iconst 0, 1) := dk_3 (dk_at dksX0_tub_0 11 rfl rfl)
theorem dX0_tub_12 : decode cX0_tub 12 = .ok (.putfield 121, 3) := dk_181 0 121 (dk_at dksX0_tub_0 12 rfl rfl)
theorem dX0_tub_15 : decode cX0_tub 15 = .ok (.aload_n 0, 1) := dk_42 (dk_at dksX0_tub_0 15 rfl rfl)
theorem dX0_tub_16 : decode cX0_tub 16 = .ok (.iconst (-1), 1) := dk_2 (dk_at dksX0_tub_0 16 rfl rfl)
theorem dX0_tub_17 : decode cX0_tub 17 = .ok (.putfield 20, 3) := dk_181 0 20 (dk_at dksX0_tub_0 17 rfl rfl)
theorem dX0_tub_20 : decode cX0_tub 20 = .ok (.aload_n 0, 1) := dk_42 (dk_at dksX0_tub_0 20 rfl rfl)
theorem dX0_tub_21 : decode cX0_tub 21 = .ok (.new 124, 3) := dk_187 0 124 (dk_at dksX0_tub_0 21 rfl rfl)
theorem dX0_tub_24 : decode cX0_tub 24 = .ok (.dup, 1) := dk_89 (dk_at dksX0_tub_1 0 rfl rfl)
theorem dX0_tub_25 : decode cX0_tub 25 = .ok (.aload_n 0, 1) := dk_42 (dk_at dksX0_tub_1 1 rfl rfl)
theorem dX0_tub_26 : decode cX0_tub 26 = .ok (.getfield 16, 3) := dk_180 0 16 (dk_at dksX0_tub_1 2 rfl rfl)
theorem dX0_tub_29 : decode cX0_tub 29 = .ok (.iload_n 1, 1) := dk_27 (dk_at dksX0_tub_1 5 rfl rfl)
theorem dX0_tub_30 : decode cX0_tub 30 = .ok (.invokespecial 126, 3) := dk_183 0 126 (dk_at dksX0_tub_1 6 rfl rfl)
theorem dX0_tub_33 : decode cX0_tub 33 = .ok (.invokevirtual 129, 3) := dk_182 0 129 (dk_at dksX0_tub_1 9 rfl rfl)
theorem dX0_tub_36 : decode cX0_tub 36 = .ok (.putfield 12, 3) := dk_181 0 12 (dk_at dksX0_tub_1 12 rfl rfl)
theorem dX0_tub_39 : decode cX0_tub 39 = .ok (.goto 22, 3) := dk_167 0 22 (dk_at dksX0_tub_1 15 rfl rfl)
theorem dX0_tub_42 : decode cX0_tub 42 = .ok (.astore_n 2, 1) := dk_77 (dk_at dksX0_tub_1 18 rfl rfl)
theorem dX0_tub_43 : decode cX0_tub 43 = .ok (.aload_n 0, 1) := dk_42 (dk_at dksX0_tub_1 19 rfl rfl)
theorem dX0_tub_44 : decode cX0_tub 44 = .ok (.aload_n 2, 1) := dk_44 (dk_at dksX0_tub_1 20 rfl rfl)
theorem dX0_tub_45 : decode cX0_tub 45 = .ok (.getfield 135, 3) := dk_180 0 135 (dk_at dksX0_tub_1 21 rfl rfl)
theorem dX0_tub_48 : decode cX0_tub 48 = .ok (.putfield 121, 3) := dk_181 0 121 (dk_at dksX0_tub_2 0 rfl rfl)
theorem dX0_tub_51 : decode cX0_tub 51 = .ok (.aload_n 0, 1) := dk_42 (dk_at dksX0_tub_2 3 rfl rfl)
theorem dX0_tub_52 : decode cX0_tub 52 = .ok (.aload_n 2, 1) := dk_44 (dk_at dksX0_tub_2 4 rfl rfl)
theorem dX0_tub_53 : decode cX0_tub 53 = .ok (.getfield 138, 3) := dk_180 0 138 (dk_at dksX0_tub_2 5 rfl rfl)
theorem dX0_tub_56 : decode cX0_tub 56 = .ok (.putfield 20, 3) := dk_181 0 20 (dk_at dksX0_tub_2 8 rfl rfl)
theorem dX0_tub_59 : decode cX0_tub 59 = .ok (.iconst (-1), 1) := dk_2 (dk_at dksX0_tub_2 11 rfl rfl)
theorem dX0_tub_60 : decode cX0_tub 60 = .ok (.ireturn, 1) := dk_172 (dk_at dksX0_tub_2 12 rfl rfl)
theorem dX0_tub_61 : decode cX0_tub 61 = .ok (.aload_n 0, 1) := dk_42 (dk_at dksX0_tub_2 13 rfl rfl)
theorem dX0_tub_62 : decode cX0_tub 62 = .ok (.invokevirtual 56, 3) := dk_182 0 56 (dk_at dksX0_tub_2 14 rfl rfl)
theorem dX0_tub_65 : decode cX0_tub 65 = .ok (.aload_n 0, 1) := dk_42 (dk_at dksX0_tub_2 17 rfl rfl)
theorem dX0_tub_66 : decode cX0_tub 66 = .ok (.getfield 12, 3) := dk_180 0 12 (dk_at dksX0_tub_2 18 rfl rfl)
theorem dX0_tub_69 : decode cX0_tub 69 = .ok (.getfield 87, 3) := dk_180 0 87 (dk_at dksX0_tub_2 21 rfl rfl)
theorem dX0_tub_72 : decode cX0_tub 72 = .ok (.invokevirtual 68, 3) := dk_182 0 68 (dk_at dksX0_tub_3 0 rfl rfl)
theorem dX0_tub_75 : decode cX0_tub 75 = .ok (.ireturn, 1) := dk_172 (dk_at dksX0_tub_3 3 rfl rfl)
abbrev cX0_fault : ByteArray := prog_1_method_14_code
def yX0_fault : MethodName := ⟨RX0, "fault", "(I)I"⟩
def dkwX0_fault_1 : List UInt8 := [172]
abbrev dktX0_fault_1 : List UInt8 := dkwX0_fault_1 ++ []
def dkwX0_fault_0 : List UInt8 := [27, 154, 0, 10, 42, 180, 0, 121, 167, 0, 16, 27, 4, 160, 0, 10, 42, 180, 0, 20, 167, 0, 4, 2]
abbrev dktX0_fault_0 : List UInt8 := dkwX0_fault_0 ++ dktX0_fault_1
theorem dksX0_fault_0 : cX0_fault.data.toList.drop 0 = dktX0_fault_0 := by decide +kernel
theorem dksX0_fault_1 : cX0_fault.data.toList.drop 24 = dktX0_fault_1 := dk_seg dksX0_fault_0 24 rfl rfl
theorem dX0_fault_0 : decode cX0_fault 0 = .ok (.iload_n 1, 1) := dk_27 (dk_at dksX0_fault_0 0 rfl rfl)
theorem dX0_fault_1 : decode cX0_fault 1 = .ok (.ifCond .ne 10, 3) := dk_154 0 10 (dk_at dksX0_fault_0 1 rfl rfl)
theorem dX0_fault_4 : decode cX0_fault 4 = .ok (.aload_n 0, 1) := dk_42 (dk_at dksX0_fault_0 4 rfl rfl)
theorem dX0_fault_5 : decode cX0_fault 5 = .ok (.getfield 121, 3) := dk_180 0 121 (dk_at dksX0_fault_0 5 rfl rfl)
theorem dX0_fault_8 : decode cX0_fault 8 = .ok (.goto 16, 3) := dk_167 0 16 (dk_at dksX0_fault_0 8 rfl rfl)
theorem dX0_fault_11 : decode cX0_fault 11 = .ok (.iload_n 1, 1) := dk_27 (dk_at dksX0_fault_0 11 rfl rfl)
theorem dX0_fault_12 : decode cX0_fault 12 = .ok (.iconst 1, 1) := dk_4 (dk_at dksX0_fault_0 12 rfl rfl)
theorem dX0_fault_13 : decode cX0_fault 13 = .ok (.if_icmp .ne 10, 3) := dk_160 0 10 (dk_at dksX0_fault_0 13 rfl rfl)
theorem dX0_fault_16 : decode cX0_fault 16 = .ok (.aload_n 0, 1) := dk_42 (dk_at dksX0_fault_0 16 rfl rfl)
theorem dX0_fault_17 : decode cX0_fault 17 = .ok (.getfield 20, 3) := dk_180 0 20 (dk_at dksX0_fault_0 17 rfl rfl)
theorem dX0_fault_20 : decode cX0_fault 20 = .ok (.goto 4, 3) := dk_167 0 4 (dk_at dksX0_fault_0 20 rfl rfl)
theorem dX0_fault_23 : decode cX0_fault 23 = .ok (.iconst (-1), 1) := dk_2 (dk_at dksX0_fault_0 23 rfl rfl)
theorem dX0_fault_24 : decode cX0_fault 24 = .ok (.ireturn, 1) := dk_172 (dk_at dksX0_fault_1 0 rfl rfl)
abbrev cX0_apple : ByteArray := prog_1_method_15_code
def yX0_apple : MethodName := ⟨RX0, "apple", "(II)I"⟩
def dkwX0_apple_3 : List UInt8 := [167, 0, 17, 28, 7, 160, 0, 10, 45, 180, 0, 159, 167, 0, 5, 16, 254, 172]
abbrev dktX0_apple_3 : List UInt8 := dkwX0_apple_3 ++ []
def dkwX0_apple_2 : List UInt8 := [167, 0, 41, 28, 5, 160, 0, 10, 45, 180, 0, 153, 167, 0, 29, 28, 6, 160, 0, 10, 45, 180, 0, 156]
abbrev dktX0_apple_2 : List UInt8 := dkwX0_apple_2 ++ dktX0_apple_3
def dkwX0_apple_1 : List UInt8 := [192, 0, 145, 78, 28, 154, 0, 10, 45, 180, 0, 147, 167, 0, 53, 28, 4, 160, 0, 10, 45, 180, 0, 150]
abbrev dktX0_apple_1 : List UInt8 := dkwX0_apple_1 ++ dktX0_apple_2
def dkwX0_apple_0 : List UInt8 := [42, 27, 182, 0, 141, 154, 0, 6, 16, 254, 172, 42, 180, 0, 12, 180, 0, 87, 27, 182, 0, 104]
abbrev dktX0_apple_0 : List UInt8 := dkwX0_apple_0 ++ dktX0_apple_1
theorem dksX0_apple_0 : cX0_apple.data.toList.drop 0 = dktX0_apple_0 := by decide +kernel
theorem dksX0_apple_1 : cX0_apple.data.toList.drop 22 = dktX0_apple_1 := dk_seg dksX0_apple_0 22 rfl rfl
theorem dksX0_apple_2 : cX0_apple.data.toList.drop 46 = dktX0_apple_2 := dk_seg dksX0_apple_1 24 rfl rfl
theorem dksX0_apple_3 : cX0_apple.data.toList.drop 70 = dktX0_apple_3 := dk_seg dksX0_apple_2 24 rfl rfl
theorem dX0_apple_0 : decode cX0_apple 0 = .ok (.aload_n 0, 1) := dk_42 (dk_at dksX0_apple_0 0 rfl rfl)
theorem dX0_apple_1 : decode cX0_apple 1 = .ok (.iload_n 1, 1) := dk_27 (dk_at dksX0_apple_0 1 rfl rfl)
theorem dX0_apple_2 : decode cX0_apple 2 = .ok (.invokevirtual 141, 3) := dk_182 0 141 (dk_at dksX0_apple_0 2 rfl rfl)
theorem dX0_apple_5 : decode cX0_apple 5 = .ok (.ifCond .ne 6, 3) := dk_154 0 6 (dk_at dksX0_apple_0 5 rfl rfl)
theorem dX0_apple_8 : decode cX0_apple 8 = .ok (.bipush (-2), 2) := dk_16 254 (dk_at dksX0_apple_0 8 rfl rfl)
theorem dX0_apple_10 : decode cX0_apple 10 = .ok (.ireturn, 1) := dk_172 (dk_at dksX0_apple_0 10 rfl rfl)
theorem dX0_apple_11 : decode cX0_apple 11 = .ok (.aload_n 0, 1) := dk_42 (dk_at dksX0_apple_0 11 rfl rfl)
theorem dX0_apple_12 : decode cX0_apple 12 = .ok (.getfield 12, 3) := dk_180 0 12 (dk_at dksX0_apple_0 12 rfl rfl)
theorem dX0_apple_15 : decode cX0_apple 15 = .ok (.getfield 87, 3) := dk_180 0 87 (dk_at dksX0_apple_0 15 rfl rfl)
theorem dX0_apple_18 : decode cX0_apple 18 = .ok (.iload_n 1, 1) := dk_27 (dk_at dksX0_apple_0 18 rfl rfl)
theorem dX0_apple_19 : decode cX0_apple 19 = .ok (.invokevirtual 104, 3) := dk_182 0 104 (dk_at dksX0_apple_0 19 rfl rfl)
theorem dX0_apple_22 : decode cX0_apple 22 = .ok (.checkcast 145, 3) := dk_192 0 145 (dk_at dksX0_apple_1 0 rfl rfl)
theorem dX0_apple_25 : decode cX0_apple 25 = .ok (.astore_n 3, 1) := dk_78 (dk_at dksX0_apple_1 3 rfl rfl)
theorem dX0_apple_26 : decode cX0_apple 26 = .ok (.iload_n 2, 1) := dk_28 (dk_at dksX0_apple_1 4 rfl rfl)
theorem dX0_apple_27 : decode cX0_apple 27 = .ok (.ifCond .ne 10, 3) := dk_154 0 10 (dk_at dksX0_apple_1 5 rfl rfl)
theorem dX0_apple_30 : decode cX0_apple 30 = .ok (.aload_n 3, 1) := dk_45 (dk_at dksX0_apple_1 8 rfl rfl)
theorem dX0_apple_31 : decode cX0_apple 31 = .ok (.getfield 147, 3) := dk_180 0 147 (dk_at dksX0_apple_1 9 rfl rfl)
theorem dX0_apple_34 : decode cX0_apple 34 = .ok (.goto 53, 3) := dk_167 0 53 (dk_at dksX0_apple_1 12 rfl rfl)
theorem dX0_apple_37 : decode cX0_apple 37 = .ok (.iload_n 2, 1) := dk_28 (dk_at dksX0_apple_1 15 rfl rfl)
theorem dX0_apple_38 : decode cX0_apple 38 = .ok (.iconst 1, 1) := dk_4 (dk_at dksX0_apple_1 16 rfl rfl)
theorem dX0_apple_39 : decode cX0_apple 39 = .ok (.if_icmp .ne 10, 3) := dk_160 0 10 (dk_at dksX0_apple_1 17 rfl rfl)
theorem dX0_apple_42 : decode cX0_apple 42 = .ok (.aload_n 3, 1) := dk_45 (dk_at dksX0_apple_1 20 rfl rfl)
theorem dX0_apple_43 : decode cX0_apple 43 = .ok (.getfield 150, 3) := dk_180 0 150 (dk_at dksX0_apple_1 21 rfl rfl)
theorem dX0_apple_46 : decode cX0_apple 46 = .ok (.goto 41, 3) := dk_167 0 41 (dk_at dksX0_apple_2 0 rfl rfl)
theorem dX0_apple_49 : decode cX0_apple 49 = .ok (.iload_n 2, 1) := dk_28 (dk_at dksX0_apple_2 3 rfl rfl)
theorem dX0_apple_50 : decode cX0_apple 50 = .ok (.iconst 2, 1) := dk_5 (dk_at dksX0_apple_2 4 rfl rfl)
theorem dX0_apple_51 : decode cX0_apple 51 = .ok (.if_icmp .ne 10, 3) := dk_160 0 10 (dk_at dksX0_apple_2 5 rfl rfl)
theorem dX0_apple_54 : decode cX0_apple 54 = .ok (.aload_n 3, 1) := dk_45 (dk_at dksX0_apple_2 8 rfl rfl)
theorem dX0_apple_55 : decode cX0_apple 55 = .ok (.getfield 153, 3) := dk_180 0 153 (dk_at dksX0_apple_2 9 rfl rfl)
theorem dX0_apple_58 : decode cX0_apple 58 = .ok (.goto 29, 3) := dk_167 0 29 (dk_at dksX0_apple_2 12 rfl rfl)
theorem dX0_apple_61 : decode cX0_apple 61 = .ok (.iload_n 2, 1) := dk_28 (dk_at dksX0_apple_2 15 rfl rfl)
theorem dX0_apple_62 : decode cX0_apple 62 = .ok (.iconst 3, 1) := dk_6 (dk_at dksX0_apple_2 16 rfl rfl)
theorem dX0_apple_63 : decode cX0_apple 63 = .ok (.if_icmp .ne 10, 3) := dk_160 0 10 (dk_at dksX0_apple_2 17 rfl rfl)
theorem dX0_apple_66 : decode cX0_apple 66 = .ok (.aload_n 3, 1) := dk_45 (dk_at dksX0_apple_2 20 rfl rfl)
theorem dX0_apple_67 : decode cX0_apple 67 = .ok (.getfield 156, 3) := dk_180 0 156 (dk_at dksX0_apple_2 21 rfl rfl)
theorem dX0_apple_70 : decode cX0_apple 70 = .ok (.goto 17, 3) := dk_167 0 17 (dk_at dksX0_apple_3 0 rfl rfl)
theorem dX0_apple_73 : decode cX0_apple 73 = .ok (.iload_n 2, 1) := dk_28 (dk_at dksX0_apple_3 3 rfl rfl)
theorem dX0_apple_74 : decode cX0_apple 74 = .ok (.iconst 4, 1) := dk_7 (dk_at dksX0_apple_3 4 rfl rfl)
theorem dX0_apple_75 : decode cX0_apple 75 = .ok (.if_icmp .ne 10, 3) := dk_160 0 10 (dk_at dksX0_apple_3 5 rfl rfl)
theorem dX0_apple_78 : decode cX0_apple 78 = .ok (.aload_n 3, 1) := dk_45 (dk_at dksX0_apple_3 8 rfl rfl)
theorem dX0_apple_79 : decode cX0_apple 79 = .ok (.getfield 159, 3) := dk_180 0 159 (dk_at dksX0_apple_3 9 rfl rfl)
theorem dX0_apple_82 : decode cX0_apple 82 = .ok (.goto 5, 3) := dk_167 0 5 (dk_at dksX0_apple_3 12 rfl rfl)
theorem dX0_apple_85 : decode cX0_apple 85 = .ok (.bipush (-2), 2) := dk_16 254 (dk_at dksX0_apple_3 15 rfl rfl)
theorem dX0_apple_87 : decode cX0_apple 87 = .ok (.ireturn, 1) := dk_172 (dk_at dksX0_apple_3 17 rfl rfl)
abbrev cX0_isApple : ByteArray := prog_1_method_6_code
def yX0_isApple : MethodName := ⟨RX0, "isApple", "(I)Z"⟩
def dkwX0_isApple_0 : List UInt8 := [27, 3, 42, 180, 0, 12, 180, 0, 87, 182, 0, 68, 4, 100, 184, 0, 90, 172]
abbrev dktX0_isApple_0 : List UInt8 := dkwX0_isApple_0 ++ []
theorem dksX0_isApple_0 : cX0_isApple.data.toList.drop 0 = dktX0_isApple_0 := by decide +kernel
theorem dX0_isApple_0 : decode cX0_isApple 0 = .ok (.iload_n 1, 1) := dk_27 (dk_at dksX0_isApple_0 0 rfl rfl)
theorem dX0_isApple_1 : decode cX0_isApple 1 = .ok (.iconst 0, 1) := dk_3 (dk_at dksX0_isApple_0 1 rfl rfl)
theorem dX0_isApple_2 : decode cX0_isApple 2 = .ok (.aload_n 0, 1) := dk_42 (dk_at dksX0_isApple_0 2 rfl rfl)
theorem dX0_isApple_3 : decode cX0_isApple 3 = .ok (.getfield 12, 3) := dk_180 0 12 (dk_at dksX0_isApple_0 3 rfl rfl)
theorem dX0_isApple_6 : decode cX0_isApple 6 = .ok (.getfield 87, 3) := dk_180 0 87 (dk_at dksX0_isApple_0 6 rfl rfl)
theorem dX0_isApple_9 : decode cX0_isApple 9 = .ok (.invokevirtual 68, 3) := dk_182 0 68 (dk_at dksX0_isApple_0 9 rfl rfl)
theorem dX0_isApple_12 : decode cX0_isApple 12 = .ok (.iconst 1, 1) := dk_4 (dk_at dksX0_isApple_0 12 rfl rfl)
theorem dX0_isApple_13 : decode cX0_isApple 13 = .ok (.isub, 1) := dk_100 (dk_at dksX0_isApple_0 13 rfl rfl)
theorem dX0_isApple_14 : decode cX0_isApple 14 = .ok (.invokestatic 90, 3) := dk_184 0 90 (dk_at dksX0_isApple_0 14 rfl rfl)
theorem dX0_isApple_17 : decode cX0_isApple 17 = .ok (.ireturn, 1) := dk_172 (dk_at dksX0_isApple_0 17 rfl rfl)
abbrev cX0_isIn : ByteArray := prog_1_method_1_code
def yX0_isIn : MethodName := ⟨RX0, "isIn", "(III)Z"⟩
def dkwX0_isIn_0 : List UInt8 := [26, 27, 161, 0, 12, 26, 28, 163, 0, 7, 4, 167, 0, 4, 3, 172]
abbrev dktX0_isIn_0 : List UInt8 := dkwX0_isIn_0 ++ []
theorem dksX0_isIn_0 : cX0_isIn.data.toList.drop 0 = dktX0_isIn_0 := by decide +kernel
theorem dX0_isIn_0 : decode cX0_isIn 0 = .ok (.iload_n 0, 1) := dk_26 (dk_at dksX0_isIn_0 0 rfl rfl)
theorem dX0_isIn_1 : decode cX0_isIn 1 = .ok (.iload_n 1, 1) := dk_27 (dk_at dksX0_isIn_0 1 rfl rfl)
theorem dX0_isIn_2 : decode cX0_isIn 2 = .ok (.if_icmp .lt 12, 3) := dk_161 0 12 (dk_at dksX0_isIn_0 2 rfl rfl)
theorem dX0_isIn_5 : decode cX0_isIn 5 = .ok (.iload_n 0, 1) := dk_26 (dk_at dksX0_isIn_0 5 rfl rfl)
theorem dX0_isIn_6 : decode cX0_isIn 6 = .ok (.iload_n 2, 1) := dk_28 (dk_at dksX0_isIn_0 6 rfl rfl)
theorem dX0_isIn_7 : decode cX0_isIn 7 = .ok (.if_icmp .gt 7, 3) := dk_163 0 7 (dk_at dksX0_isIn_0 7 rfl rfl)
theorem dX0_isIn_10 : decode cX0_isIn 10 = .ok (.iconst 1, 1) := dk_4 (dk_at dksX0_isIn_0 10 rfl rfl)
theorem dX0_isIn_11 : decode cX0_isIn 11 = .ok (.goto 4, 3) := dk_167 0 4 (dk_at dksX0_isIn_0 11 rfl rfl)
theorem dX0_isIn_14 : decode cX0_isIn 14 = .ok (.iconst 0, 1) := dk_3 (dk_at dksX0_isIn_0 14 rfl rfl)
theorem dX0_isIn_15 : decode cX0_isIn 15 = .ok (.ireturn, 1) := dk_172 (dk_at dksX0_isIn_0 15 rfl rfl)
abbrev cX0_bobber : ByteArray := prog_1_method_16_code
def yX0_bobber : MethodName := ⟨RX0, "bobber", "(II)I"⟩
def dkwX0_bobber_2 : List UInt8 := [28, 5, 160, 0, 10, 45, 180, 0, 170, 167, 0, 4, 2, 172]
abbrev dktX0_bobber_2 : List UInt8 := dkwX0_bobber_2 ++ []
def dkwX0_bobber_1 : List UInt8 := [78, 28, 154, 0, 10, 45, 180, 0, 164, 167, 0, 28, 28, 4, 160, 0, 10, 45, 180, 0, 167, 167, 0, 16]
abbrev dktX0_bobber_1 : List UInt8 := dkwX0_bobber_1 ++ dktX0_bobber_2
def dkwX0_bobber_0 : List UInt8 := [42, 27, 182, 0, 161, 154, 0, 5, 2, 172, 42, 180, 0, 12, 180, 0, 94, 27, 182, 0, 104, 192, 0, 107]
abbrev dktX0_bobber_0 : List UInt8 := dkwX0_bobber_0 ++ dktX0_bobber_1
theorem dksX0_bobber_0 : cX0_bobber.data.toList.drop 0 = dktX0_bobber_0 := by decide +kernel
theorem dksX0_bobber_1 : cX0_bobber.data.toList.drop 24 = dktX0_bobber_1 := dk_seg dksX0_bobber_0 24 rfl rfl
theorem dksX0_bobber_2 : cX0_bobber.data.toList.drop 48 = dktX0_bobber_2 := dk_seg dksX0_bobber_1 24 rfl rfl
theorem dX0_bobber_0 : decode cX0_bobber 0 = .ok (.aload_n 0, 1) := dk_42 (dk_at dksX0_bobber_0 0 rfl rfl)
theorem dX0_bobber_1 : decode cX0_bobber 1 = .ok (.iload_n 1, 1) := dk_27 (dk_at dksX0_bobber_0 1 rfl rfl)
theorem dX0_bobber_2 : decode cX0_bobber 2 = .ok (.invokevirtual 161, 3) := dk_182 0 161 (dk_at dksX0_bobber_0 2 rfl rfl)
theorem dX0_bobber_5 : decode cX0_bobber 5 = .ok (.ifCond .ne 5, 3) := dk_154 0 5 (dk_at dksX0_bobber_0 5 rfl rfl)
theorem dX0_bobber_8 : decode cX0_bobber 8 = .ok (.iconst (-1), 1) := dk_2 (dk_at dksX0_bobber_0 8 rfl rfl)
theorem dX0_bobber_9 : decode cX0_bobber 9 = .ok (.ireturn, 1) := dk_172 (dk_at dksX0_bobber_0 9 rfl rfl)
theorem dX0_bobber_10 : decode cX0_bobber 10 = .ok (.aload_n 0, 1) := dk_42 (dk_at dksX0_bobber_0 10 rfl rfl)
theorem dX0_bobber_11 : decode cX0_bobber 11 = .ok (.getfield 12, 3) := dk_180 0 12 (dk_at dksX0_bobber_0 11 rfl rfl)
theorem dX0_bobber_14 : decode cX0_bobber 14 = .ok (.getfield 94, 3) := dk_180 0 94 (dk_at dksX0_bobber_0 14 rfl rfl)
theorem dX0_bobber_17 : decode cX0_bobber 17 = .ok (.iload_n 1, 1) := dk_27 (dk_at dksX0_bobber_0 17 rfl rfl)
theorem dX0_bobber_18 : decode cX0_bobber 18 = .ok (.invokevirtual 104, 3) := dk_182 0 104 (dk_at dksX0_bobber_0 18 rfl rfl)
theorem dX0_bobber_21 : decode cX0_bobber 21 = .ok (.checkcast 107, 3) := dk_192 0 107 (dk_at dksX0_bobber_0 21 rfl rfl)
theorem dX0_bobber_24 : decode cX0_bobber 24 = .ok (.astore_n 3, 1) := dk_78 (dk_at dksX0_bobber_1 0 rfl rfl)
theorem dX0_bobber_25 : decode cX0_bobber 25 = .ok (.iload_n 2, 1) := dk_28 (dk_at dksX0_bobber_1 1 rfl rfl)
theorem dX0_bobber_26 : decode cX0_bobber 26 = .ok (.ifCond .ne 10, 3) := dk_154 0 10 (dk_at dksX0_bobber_1 2 rfl rfl)
theorem dX0_bobber_29 : decode cX0_bobber 29 = .ok (.aload_n 3, 1) := dk_45 (dk_at dksX0_bobber_1 5 rfl rfl)
theorem dX0_bobber_30 : decode cX0_bobber 30 = .ok (.getfield 164, 3) := dk_180 0 164 (dk_at dksX0_bobber_1 6 rfl rfl)
theorem dX0_bobber_33 : decode cX0_bobber 33 = .ok (.goto 28, 3) := dk_167 0 28 (dk_at dksX0_bobber_1 9 rfl rfl)
theorem dX0_bobber_36 : decode cX0_bobber 36 = .ok (.iload_n 2, 1) := dk_28 (dk_at dksX0_bobber_1 12 rfl rfl)
theorem dX0_bobber_37 : decode cX0_bobber 37 = .ok (.iconst 1, 1) := dk_4 (dk_at dksX0_bobber_1 13 rfl rfl)
theorem dX0_bobber_38 : decode cX0_bobber 38 = .ok (.if_icmp .ne 10, 3) := dk_160 0 10 (dk_at dksX0_bobber_1 14 rfl rfl)
theorem dX0_bobber_41 : decode cX0_bobber 41 = .ok (.aload_n 3, 1) := dk_45 (dk_at dksX0_bobber_1 17 rfl rfl)
theorem dX0_bobber_42 : decode cX0_bobber 42 = .ok (.getfield 167, 3) := dk_180 0 167 (dk_at dksX0_bobber_1 18 rfl rfl)
theorem dX0_bobber_45 : decode cX0_bobber 45 = .ok (.goto 16, 3) := dk_167 0 16 (dk_at dksX0_bobber_1 21 rfl rfl)
theorem dX0_bobber_48 : decode cX0_bobber 48 = .ok (.iload_n 2, 1) := dk_28 (dk_at dksX0_bobber_2 0 rfl rfl)
theorem dX0_bobber_49 : decode cX0_bobber 49 = .ok (.iconst 2, 1) := dk_5 (dk_at dksX0_bobber_2 1 rfl rfl)
theorem dX0_bobber_50 : decode cX0_bobber 50 = .ok (.if_icmp .ne 10, 3) := dk_160 0 10 (dk_at dksX0_bobber_2 2 rfl rfl)
theorem dX0_bobber_53 : decode cX0_bobber 53 = .ok (.aload_n 3, 1) := dk_45 (dk_at dksX0_bobber_2 5 rfl rfl)
theorem dX0_bobber_54 : decode cX0_bobber 54 = .ok (.getfield 170, 3) := dk_180 0 170 (dk_at dksX0_bobber_2 6 rfl rfl)
theorem dX0_bobber_57 : decode cX0_bobber 57 = .ok (.goto 4, 3) := dk_167 0 4 (dk_at dksX0_bobber_2 9 rfl rfl)
theorem dX0_bobber_60 : decode cX0_bobber 60 = .ok (.iconst (-1), 1) := dk_2 (dk_at dksX0_bobber_2 12 rfl rfl)
theorem dX0_bobber_61 : decode cX0_bobber 61 = .ok (.ireturn, 1) := dk_172 (dk_at dksX0_bobber_2 13 rfl rfl)
abbrev cX0_isBobber : ByteArray := prog_1_method_7_code
def yX0_isBobber : MethodName := ⟨RX0, "isBobber", "(I)Z"⟩
def dkwX0_isBobber_0 : List UInt8 := [27, 3, 42, 180, 0, 12, 180, 0, 94, 182, 0, 68, 4, 100, 184, 0, 90, 172]
abbrev dktX0_isBobber_0 : List UInt8 := dkwX0_isBobber_0 ++ []
theorem dksX0_isBobber_0 : cX0_isBobber.data.toList.drop 0 = dktX0_isBobber_0 := by decide +kernel
theorem dX0_isBobber_0 : decode cX0_isBobber 0 = .ok (.iload_n 1, 1) := dk_27 (dk_at dksX0_isBobber_0 0 rfl rfl)
theorem dX0_isBobber_1 : decode cX0_isBobber 1 = .ok (.iconst 0, 1) := dk_3 (dk_at dksX0_isBobber_0 1 rfl rfl)
theorem dX0_isBobber_2 : decode cX0_isBobber 2 = .ok (.aload_n 0, 1) := dk_42 (dk_at dksX0_isBobber_0 2 rfl rfl)
theorem dX0_isBobber_3 : decode cX0_isBobber 3 = .ok (.getfield 12, 3) := dk_180 0 12 (dk_at dksX0_isBobber_0 3 rfl rfl)
theorem dX0_isBobber_6 : decode cX0_isBobber 6 = .ok (.getfield 94, 3) := dk_180 0 94 (dk_at dksX0_isBobber_0 6 rfl rfl)
theorem dX0_isBobber_9 : decode cX0_isBobber 9 = .ok (.invokevirtual 68, 3) := dk_182 0 68 (dk_at dksX0_isBobber_0 9 rfl rfl)
theorem dX0_isBobber_12 : decode cX0_isBobber 12 = .ok (.iconst 1, 1) := dk_4 (dk_at dksX0_isBobber_0 12 rfl rfl)
theorem dX0_isBobber_13 : decode cX0_isBobber 13 = .ok (.isub, 1) := dk_100 (dk_at dksX0_isBobber_0 13 rfl rfl)
theorem dX0_isBobber_14 : decode cX0_isBobber 14 = .ok (.invokestatic 90, 3) := dk_184 0 90 (dk_at dksX0_isBobber_0 14 rfl rfl)
theorem dX0_isBobber_17 : decode cX0_isBobber 17 = .ok (.ireturn, 1) := dk_172 (dk_at dksX0_isBobber_0 17 rfl rfl)
abbrev cX0_odds : ByteArray := prog_1_method_18_code
def yX0_odds : MethodName := ⟨RX0, "odds", "(III)I"⟩
def dkwX0_odds_2 : List UInt8 := [167, 0, 4, 2, 172]
abbrev dktX0_odds_2 : List UInt8 := dkwX0_odds_2 ++ []
def dkwX0_odds_1 : List UInt8 := [182, 0, 104, 192, 0, 107, 42, 180, 0, 12, 180, 0, 87, 28, 182, 0, 104, 192, 0, 145, 29, 182, 0, 180]
abbrev dktX0_odds_1 : List UInt8 := dkwX0_odds_1 ++ dktX0_odds_2
def dkwX0_odds_0 : List UInt8 := [42, 27, 28, 29, 182, 0, 177, 153, 0, 42, 42, 180, 0, 12, 42, 180, 0, 12, 180, 0, 94, 27]
abbrev dktX0_odds_0 : List UInt8 := dkwX0_odds_0 ++ dktX0_odds_1
theorem dksX0_odds_0 : cX0_odds.data.toList.drop 0 = dktX0_odds_0 := by decide +kernel
theorem dksX0_odds_1 : cX0_odds.data.toList.drop 22 = dktX0_odds_1 := dk_seg dksX0_odds_0 22 rfl rfl
theorem dksX0_odds_2 : cX0_odds.data.toList.drop 46 = dktX0_odds_2 := dk_seg dksX0_odds_1 24 rfl rfl
theorem dX0_odds_0 : decode cX0_odds 0 = .ok (.aload_n 0, 1) := dk_42 (dk_at dksX0_odds_0 0 rfl rfl)
theorem dX0_odds_1 : decode cX0_odds 1 = .ok (.iload_n 1, 1) := dk_27 (dk_at dksX0_odds_0 1 rfl rfl)
theorem dX0_odds_2 : decode cX0_odds 2 = .ok (.iload_n 2, 1) := dk_28 (dk_at dksX0_odds_0 2 rfl rfl)
theorem dX0_odds_3 : decode cX0_odds 3 = .ok (.iload_n 3, 1) := dk_29 (dk_at dksX0_odds_0 3 rfl rfl)
theorem dX0_odds_4 : decode cX0_odds 4 = .ok (.invokevirtual 177, 3) := dk_182 0 177 (dk_at dksX0_odds_0 4 rfl rfl)
theorem dX0_odds_7 : decode cX0_odds 7 = .ok (.ifCond .eq 42, 3) := dk_153 0 42 (dk_at dksX0_odds_0 7 rfl rfl)
theorem dX0_odds_10 : decode cX0_odds 10 = .ok (.aload_n 0, 1) := dk_42 (dk_at dksX0_odds_0 10 rfl rfl)
theorem dX0_odds_11 : decode cX0_odds 11 = .ok (.getfield 12, 3) := dk_180 0 12 (dk_at dksX0_odds_0 11 rfl rfl)
theorem dX0_odds_14 : decode cX0_odds 14 = .ok (.aload_n 0, 1) := dk_42 (dk_at dksX0_odds_0 14 rfl rfl)
theorem dX0_odds_15 : decode cX0_odds 15 = .ok (.getfield 12, 3) := dk_180 0 12 (dk_at dksX0_odds_0 15 rfl rfl)
theorem dX0_odds_18 : decode cX0_odds 18 = .ok (.getfield 94, 3) := dk_180 0 94 (dk_at dksX0_odds_0 18 rfl rfl)
theorem dX0_odds_21 : decode cX0_odds 21 = .ok (.iload_n 1, 1) := dk_27 (dk_at dksX0_odds_0 21 rfl rfl)
theorem dX0_odds_22 : decode cX0_odds 22 = .ok (.invokevirtual 104, 3) := dk_182 0 104 (dk_at dksX0_odds_1 0 rfl rfl)
theorem dX0_odds_25 : decode cX0_odds 25 = .ok (.checkcast 107, 3) := dk_192 0 107 (dk_at dksX0_odds_1 3 rfl rfl)
theorem dX0_odds_28 : decode cX0_odds 28 = .ok (.aload_n 0, 1) := dk_42 (dk_at dksX0_odds_1 6 rfl rfl)
theorem dX0_odds_29 : decode cX0_odds 29 = .ok (.getfield 12, 3) := dk_180 0 12 (dk_at dksX0_odds_1 7 rfl rfl)
theorem dX0_odds_32 : decode cX0_odds 32 = .ok (.getfield 87, 3) := dk_180 0 87 (dk_at dksX0_odds_1 10 rfl rfl)
theorem dX0_odds_35 : decode cX0_odds 35 = .ok (.iload_n 2, 1) := dk_28 (dk_at dksX0_odds_1 13 rfl rfl)
theorem dX0_odds_36 : decode cX0_odds 36 = .ok (.invokevirtual 104, 3) := dk_182 0 104 (dk_at dksX0_odds_1 14 rfl rfl)
theorem dX0_odds_39 : decode cX0_odds 39 = .ok (.checkcast 145, 3) := dk_192 0 145 (dk_at dksX0_odds_1 17 rfl rfl)
theorem dX0_odds_42 : decode cX0_odds 42 = .ok (.iload_n 3, 1) := dk_29 (dk_at dksX0_odds_1 20 rfl rfl)
theorem dX0_odds_43 : decode cX0_odds 43 = .ok (.invokevirtual 180, 3) := dk_182 0 180 (dk_at dksX0_odds_1 21 rfl rfl)
theorem dX0_odds_46 : decode cX0_odds 46 = .ok (.goto 4, 3) := dk_167 0 4 (dk_at dksX0_odds_2 0 rfl rfl)
theorem dX0_odds_49 : decode cX0_odds 49 = .ok (.iconst (-1), 1) := dk_2 (dk_at dksX0_odds_2 3 rfl rfl)
theorem dX0_odds_50 : decode cX0_odds 50 = .ok (.ireturn, 1) := dk_172 (dk_at dksX0_odds_2 4 rfl rfl)
abbrev cX0_isTry : ByteArray := prog_1_method_17_code
def yX0_isTry : MethodName := ⟨RX0, "isTry", "(III)Z"⟩
def dkwX0_isTry_3 : List UInt8 := [3, 172]
abbrev dktX0_isTry_3 : List UInt8 := dkwX0_isTry_3 ++ []
def dkwX0_isTry_2 : List UInt8 := [180, 0, 12, 180, 0, 87, 28, 182, 0, 104, 192, 0, 145, 29, 182, 0, 173, 153, 0, 7, 4, 167, 0, 4]
abbrev dktX0_isTry_2 : List UInt8 := dkwX0_isTry_2 ++ dktX0_isTry_3
def dkwX0_isTry_1 : List UInt8 := [153, 0, 46, 42, 180, 0, 12, 42, 180, 0, 12, 180, 0, 94, 27, 182, 0, 104, 192, 0, 107, 42]
abbrev dktX0_isTry_1 : List UInt8 := dkwX0_isTry_1 ++ dktX0_isTry_2
def dkwX0_isTry_0 : List UInt8 := [42, 27, 182, 0, 161, 153, 0, 63, 42, 28, 182, 0, 141, 153, 0, 55, 29, 3, 7, 184, 0, 90]
abbrev dktX0_isTry_0 : List UInt8 := dkwX0_isTry_0 ++ dktX0_isTry_1
theorem dksX0_isTry_0 : cX0_isTry.data.toList.drop 0 = dktX0_isTry_0 := by decide +kernel
theorem dksX0_isTry_1 : cX0_isTry.data.toList.drop 22 = dktX0_isTry_1 := dk_seg dksX0_isTry_0 22 rfl rfl
theorem dksX0_isTry_2 : cX0_isTry.data.toList.drop 44 = dktX0_isTry_2 := dk_seg dksX0_isTry_1 22 rfl rfl
theorem dksX0_isTry_3 : cX0_isTry.data.toList.drop 68 = dktX0_isTry_3 := dk_seg dksX0_isTry_2 24 rfl rfl
theorem dX0_isTry_0 : decode cX0_isTry 0 = .ok (.aload_n 0, 1) := dk_42 (dk_at dksX0_isTry_0 0 rfl rfl)
theorem dX0_isTry_1 : decode cX0_isTry 1 = .ok (.iload_n 1, 1) := dk_27 (dk_at dksX0_isTry_0 1 rfl rfl)
theorem dX0_isTry_2 : decode cX0_isTry 2 = .ok (.invokevirtual 161, 3) := dk_182 0 161 (dk_at dksX0_isTry_0 2 rfl rfl)
theorem dX0_isTry_5 : decode cX0_isTry 5 = .ok (.ifCond .eq 63, 3) := dk_153 0 63 (dk_at dksX0_isTry_0 5 rfl rfl)
theorem dX0_isTry_8 : decode cX0_isTry 8 = .ok (.aload_n 0, 1) := dk_42 (dk_at dksX0_isTry_0 8 rfl rfl)
theorem dX0_isTry_9 : decode cX0_isTry 9 = .ok (.iload_n 2, 1) := dk_28 (dk_at dksX0_isTry_0 9 rfl rfl)
theorem dX0_isTry_10 : decode cX0_isTry 10 = .ok (.invokevirtual 141, 3) := dk_182 0 141 (dk_at dksX0_isTry_0 10 rfl rfl)
theorem dX0_isTry_13 : decode cX0_isTry 13 = .ok (.ifCond .eq 55, 3) := dk_153 0 55 (dk_at dksX0_isTry_0 13 rfl rfl)
theorem dX0_isTry_16 : decode cX0_isTry 16 = .ok (.iload_n 3, 1) := dk_29 (dk_at dksX0_isTry_0 16 rfl rfl)
theorem dX0_isTry_17 : decode cX0_isTry 17 = .ok (.iconst 0, 1) := dk_3 (dk_at dksX0_isTry_0 17 rfl rfl)
theorem dX0_isTry_18 : decode cX0_isTry 18 = .ok (.iconst 4, 1) := dk_7 (dk_at dksX0_isTry_0 18 rfl rfl)
theorem dX0_isTry_19 : decode cX0_isTry 19 = .ok (.invokestatic 90, 3) := dk_184 0 90 (dk_at dksX0_isTry_0 19 rfl rfl)
theorem dX0_isTry_22 : decode cX0_isTry 22 = .ok (.ifCond .eq 46, 3) := dk_153 0 46 (dk_at dksX0_isTry_1 0 rfl rfl)
theorem dX0_isTry_25 : decode cX0_isTry 25 = .ok (.aload_n 0, 1) := dk_42 (dk_at dksX0_isTry_1 3 rfl rfl)
theorem dX0_isTry_26 : decode cX0_isTry 26 = .ok (.getfield 12, 3) := dk_180 0 12 (dk_at dksX0_isTry_1 4 rfl rfl)
theorem dX0_isTry_29 : decode cX0_isTry 29 = .ok (.aload_n 0, 1) := dk_42 (dk_at dksX0_isTry_1 7 rfl rfl)
theorem dX0_isTry_30 : decode cX0_isTry 30 = .ok (.getfield 12, 3) := dk_180 0 12 (dk_at dksX0_isTry_1 8 rfl rfl)
theorem dX0_isTry_33 : decode cX0_isTry 33 = .ok (.getfield 94, 3) := dk_180 0 94 (dk_at dksX0_isTry_1 11 rfl rfl)
theorem dX0_isTry_36 : decode cX0_isTry 36 = .ok (.iload_n 1, 1) := dk_27 (dk_at dksX0_isTry_1 14 rfl rfl)
theorem dX0_isTry_37 : decode cX0_isTry 37 = .ok (.invokevirtual 104, 3) := dk_182 0 104 (dk_at dksX0_isTry_1 15 rfl rfl)
theorem dX0_isTry_40 : decode cX0_isTry 40 = .ok (.checkcast 107, 3) := dk_192 0 107 (dk_at dksX0_isTry_1 18 rfl rfl)
theorem dX0_isTry_43 : decode cX0_isTry 43 = .ok (.aload_n 0, 1) := dk_42 (dk_at dksX0_isTry_1 21 rfl rfl)
theorem dX0_isTry_44 : decode cX0_isTry 44 = .ok (.getfield 12, 3) := dk_180 0 12 (dk_at dksX0_isTry_2 0 rfl rfl)
theorem dX0_isTry_47 : decode cX0_isTry 47 = .ok (.getfield 87, 3) := dk_180 0 87 (dk_at dksX0_isTry_2 3 rfl rfl)
theorem dX0_isTry_50 : decode cX0_isTry 50 = .ok (.iload_n 2, 1) := dk_28 (dk_at dksX0_isTry_2 6 rfl rfl)
theorem dX0_isTry_51 : decode cX0_isTry 51 = .ok (.invokevirtual 104, 3) := dk_182 0 104 (dk_at dksX0_isTry_2 7 rfl rfl)
theorem dX0_isTry_54 : decode cX0_isTry 54 = .ok (.checkcast 145, 3) := dk_192 0 145 (dk_at dksX0_isTry_2 10 rfl rfl)
theorem dX0_isTry_57 : decode cX0_isTry 57 = .ok (.iload_n 3, 1) := dk_29 (dk_at dksX0_isTry_2 13 rfl rfl)
theorem dX0_isTry_58 : decode cX0_isTry 58 = .ok (.invokevirtual 173, 3) := dk_182 0 173 (dk_at dksX0_isTry_2 14 rfl rfl)
theorem dX0_isTry_61 : decode cX0_isTry 61 = .ok (.ifCond .eq 7, 3) := dk_153 0 7 (dk_at dksX0_isTry_2 17 rfl rfl)
theorem dX0_isTry_64 : decode cX0_isTry 64 = .ok (.iconst 1, 1) := dk_4 (dk_at dksX0_isTry_2 20 rfl rfl)
theorem dX0_isTry_65 : decode cX0_isTry 65 = .ok (.goto 4, 3) := dk_167 0 4 (dk_at dksX0_isTry_2 21 rfl rfl)
theorem dX0_isTry_68 : decode cX0_isTry 68 = .ok (.iconst 0, 1) := dk_3 (dk_at dksX0_isTry_3 0 rfl rfl)
theorem dX0_isTry_69 : decode cX0_isTry 69 = .ok (.ireturn, 1) := dk_172 (dk_at dksX0_isTry_3 1 rfl rfl)
abbrev cX0_chooses : ByteArray := prog_1_method_19_code
def yX0_chooses : MethodName := ⟨RX0, "chooses", "(I)I"⟩
def dkwX0_chooses_1 : List UInt8 := [27, 182, 0, 104, 192, 0, 107, 182, 0, 188, 167, 0, 5, 16, 254, 172]
abbrev dktX0_chooses_1 : List UInt8 := dkwX0_chooses_1 ++ []
def dkwX0_chooses_0 : List UInt8 := [42, 27, 182, 0, 161, 153, 0, 32, 42, 180, 0, 12, 42, 27, 182, 0, 184, 42, 180, 0, 12, 180, 0, 94]
abbrev dktX0_chooses_0 : List UInt8 := dkwX0_chooses_0 ++ dktX0_chooses_1
theorem dksX0_chooses_0 : cX0_chooses.data.toList.drop 0 = dktX0_chooses_0 := by decide +kernel
theorem dksX0_chooses_1 : cX0_chooses.data.toList.drop 24 = dktX0_chooses_1 := dk_seg dksX0_chooses_0 24 rfl rfl
theorem dX0_chooses_0 : decode cX0_chooses 0 = .ok (.aload_n 0, 1) := dk_42 (dk_at dksX0_chooses_0 0 rfl rfl)
theorem dX0_chooses_1 : decode cX0_chooses 1 = .ok (.iload_n 1, 1) := dk_27 (dk_at dksX0_chooses_0 1 rfl rfl)
theorem dX0_chooses_2 : decode cX0_chooses 2 = .ok (.invokevirtual 161, 3) := dk_182 0 161 (dk_at dksX0_chooses_0 2 rfl rfl)
theorem dX0_chooses_5 : decode cX0_chooses 5 = .ok (.ifCond .eq 32, 3) := dk_153 0 32 (dk_at dksX0_chooses_0 5 rfl rfl)
theorem dX0_chooses_8 : decode cX0_chooses 8 = .ok (.aload_n 0, 1) := dk_42 (dk_at dksX0_chooses_0 8 rfl rfl)
theorem dX0_chooses_9 : decode cX0_chooses 9 = .ok (.getfield 12, 3) := dk_180 0 12 (dk_at dksX0_chooses_0 9 rfl rfl)
theorem dX0_chooses_12 : decode cX0_chooses 12 = .ok (.aload_n 0, 1) := dk_42 (dk_at dksX0_chooses_0 12 rfl rfl)
theorem dX0_chooses_13 : decode cX0_chooses 13 = .ok (.iload_n 1, 1) := dk_27 (dk_at dksX0_chooses_0 13 rfl rfl)
theorem dX0_chooses_14 : decode cX0_chooses 14 = .ok (.invokevirtual 184, 3) := dk_182 0 184 (dk_at dksX0_chooses_0 14 rfl rfl)
theorem dX0_chooses_17 : decode cX0_chooses 17 = .ok (.aload_n 0, 1) := dk_42 (dk_at dksX0_chooses_0 17 rfl rfl)
theorem dX0_chooses_18 : decode cX0_chooses 18 = .ok (.getfield 12, 3) := dk_180 0 12 (dk_at dksX0_chooses_0 18 rfl rfl)
theorem dX0_chooses_21 : decode cX0_chooses 21 = .ok (.getfield 94, 3) := dk_180 0 94 (dk_at dksX0_chooses_0 21 rfl rfl)
theorem dX0_chooses_24 : decode cX0_chooses 24 = .ok (.iload_n 1, 1) := dk_27 (dk_at dksX0_chooses_1 0 rfl rfl)
theorem dX0_chooses_25 : decode cX0_chooses 25 = .ok (.invokevirtual 104, 3) := dk_182 0 104 (dk_at dksX0_chooses_1 1 rfl rfl)
theorem dX0_chooses_28 : decode cX0_chooses 28 = .ok (.checkcast 107, 3) := dk_192 0 107 (dk_at dksX0_chooses_1 4 rfl rfl)
theorem dX0_chooses_31 : decode cX0_chooses 31 = .ok (.invokevirtual 188, 3) := dk_182 0 188 (dk_at dksX0_chooses_1 7 rfl rfl)
theorem dX0_chooses_34 : decode cX0_chooses 34 = .ok (.goto 5, 3) := dk_167 0 5 (dk_at dksX0_chooses_1 10 rfl rfl)
theorem dX0_chooses_37 : decode cX0_chooses 37 = .ok (.bipush (-2), 2) := dk_16 254 (dk_at dksX0_chooses_1 13 rfl rfl)
theorem dX0_chooses_39 : decode cX0_chooses 39 = .ok (.ireturn, 1) := dk_172 (dk_at dksX0_chooses_1 15 rfl rfl)
abbrev cX0_ruleOf : ByteArray := prog_1_method_9_code
def yX0_ruleOf : MethodName := ⟨RX0, "ruleOf", "(I)LTubBites$Rule;"⟩
def dkwX0_ruleOf_1 : List UInt8 := [42, 180, 0, 12, 180, 0, 94, 27, 182, 0, 104, 192, 0, 107, 180, 0, 109, 182, 0, 104, 192, 0, 112, 176]
abbrev dktX0_ruleOf_1 : List UInt8 := dkwX0_ruleOf_1 ++ []
def dkwX0_ruleOf_0 : List UInt8 := [42, 180, 0, 12, 180, 0, 97, 182, 0, 100, 153, 0, 7, 1, 167, 0, 33, 42, 180, 0, 12, 180, 0, 97]
abbrev dktX0_ruleOf_0 : List UInt8 := dkwX0_ruleOf_0 ++ dktX0_ruleOf_1
theorem dksX0_ruleOf_0 : cX0_ruleOf.data.toList.drop 0 = dktX0_ruleOf_0 := by decide +kernel
theorem dksX0_ruleOf_1 : cX0_ruleOf.data.toList.drop 24 = dktX0_ruleOf_1 := dk_seg dksX0_ruleOf_0 24 rfl rfl
theorem dX0_ruleOf_0 : decode cX0_ruleOf 0 = .ok (.aload_n 0, 1) := dk_42 (dk_at dksX0_ruleOf_0 0 rfl rfl)
theorem dX0_ruleOf_1 : decode cX0_ruleOf 1 = .ok (.getfield 12, 3) := dk_180 0 12 (dk_at dksX0_ruleOf_0 1 rfl rfl)
theorem dX0_ruleOf_4 : decode cX0_ruleOf 4 = .ok (.getfield 97, 3) := dk_180 0 97 (dk_at dksX0_ruleOf_0 4 rfl rfl)
theorem dX0_ruleOf_7 : decode cX0_ruleOf 7 = .ok (.invokevirtual 100, 3) := dk_182 0 100 (dk_at dksX0_ruleOf_0 7 rfl rfl)
theorem dX0_ruleOf_10 : decode cX0_ruleOf 10 = .ok (.ifCond .eq 7, 3) := dk_153 0 7 (dk_at dksX0_ruleOf_0 10 rfl rfl)
theorem dX0_ruleOf_13 : decode cX0_ruleOf 13 = .ok (.aconst_null, 1) := dk_1 (dk_at dksX0_ruleOf_0 13 rfl rfl)
theorem dX0_ruleOf_14 : decode cX0_ruleOf 14 = .ok (.goto 33, 3) := dk_167 0 33 (dk_at dksX0_ruleOf_0 14 rfl rfl)
theorem dX0_ruleOf_17 : decode cX0_ruleOf 17 = .ok (.aload_n 0, 1) := dk_42 (dk_at dksX0_ruleOf_0 17 rfl rfl)
theorem dX0_ruleOf_18 : decode cX0_ruleOf 18 = .ok (.getfield 12, 3) := dk_180 0 12 (dk_at dksX0_ruleOf_0 18 rfl rfl)
theorem dX0_ruleOf_21 : decode cX0_ruleOf 21 = .ok (.getfield 97, 3) := dk_180 0 97 (dk_at dksX0_ruleOf_0 21 rfl rfl)
theorem dX0_ruleOf_24 : decode cX0_ruleOf 24 = .ok (.aload_n 0, 1) := dk_42 (dk_at dksX0_ruleOf_1 0 rfl rfl)
theorem dX0_ruleOf_25 : decode cX0_ruleOf 25 = .ok (.getfield 12, 3) := dk_180 0 12 (dk_at dksX0_ruleOf_1 1 rfl rfl)
theorem dX0_ruleOf_28 : decode cX0_ruleOf 28 = .ok (.getfield 94, 3) := dk_180 0 94 (dk_at dksX0_ruleOf_1 4 rfl rfl)
theorem dX0_ruleOf_31 : decode cX0_ruleOf 31 = .ok (.iload_n 1, 1) := dk_27 (dk_at dksX0_ruleOf_1 7 rfl rfl)
theorem dX0_ruleOf_32 : decode cX0_ruleOf 32 = .ok (.invokevirtual 104, 3) := dk_182 0 104 (dk_at dksX0_ruleOf_1 8 rfl rfl)
theorem dX0_ruleOf_35 : decode cX0_ruleOf 35 = .ok (.checkcast 107, 3) := dk_192 0 107 (dk_at dksX0_ruleOf_1 11 rfl rfl)
theorem dX0_ruleOf_38 : decode cX0_ruleOf 38 = .ok (.getfield 109, 3) := dk_180 0 109 (dk_at dksX0_ruleOf_1 14 rfl rfl)
theorem dX0_ruleOf_41 : decode cX0_ruleOf 41 = .ok (.invokevirtual 104, 3) := dk_182 0 104 (dk_at dksX0_ruleOf_1 17 rfl rfl)
theorem dX0_ruleOf_44 : decode cX0_ruleOf 44 = .ok (.checkcast 112, 3) := dk_192 0 112 (dk_at dksX0_ruleOf_1 20 rfl rfl)
theorem dX0_ruleOf_47 : decode cX0_ruleOf 47 = .ok (.areturn, 1) := dk_176 (dk_at dksX0_ruleOf_1 23 rfl rfl)
abbrev cX0_go : ByteArray := prog_1_method_20_code
def yX0_go : MethodName := ⟨RX0, "go", "(III)I"⟩
def dkwX0_go_1 : List UInt8 := [182, 0, 195, 153, 0, 7, 4, 167, 0, 4, 3, 172]
abbrev dktX0_go_1 : List UInt8 := dkwX0_go_1 ++ []
def dkwX0_go_0 : List UInt8 := [42, 27, 28, 29, 182, 0, 177, 154, 0, 5, 2, 172, 42, 182, 0, 192, 42, 180, 0, 12, 27, 28, 29]
abbrev dktX0_go_0 : List UInt8 := dkwX0_go_0 ++ dktX0_go_1
theorem dksX0_go_0 : cX0_go.data.toList.drop 0 = dktX0_go_0 := by decide +kernel
theorem dksX0_go_1 : cX0_go.data.toList.drop 23 = dktX0_go_1 := dk_seg dksX0_go_0 23 rfl rfl
theorem dX0_go_0 : decode cX0_go 0 = .ok (.aload_n 0, 1) := dk_42 (dk_at dksX0_go_0 0 rfl rfl)
theorem dX0_go_1 : decode cX0_go 1 = .ok (.iload_n 1, 1) := dk_27 (dk_at dksX0_go_0 1 rfl rfl)
theorem dX0_go_2 : decode cX0_go 2 = .ok (.iload_n 2, 1) := dk_28 (dk_at dksX0_go_0 2 rfl rfl)
theorem dX0_go_3 : decode cX0_go 3 = .ok (.iload_n 3, 1) := dk_29 (dk_at dksX0_go_0 3 rfl rfl)
theorem dX0_go_4 : decode cX0_go 4 = .ok (.invokevirtual 177, 3) := dk_182 0 177 (dk_at dksX0_go_0 4 rfl rfl)
theorem dX0_go_7 : decode cX0_go 7 = .ok (.ifCond .ne 5, 3) := dk_154 0 5 (dk_at dksX0_go_0 7 rfl rfl)
theorem dX0_go_10 : decode cX0_go 10 = .ok (.iconst (-1), 1) := dk_2 (dk_at dksX0_go_0 10 rfl rfl)
theorem dX0_go_11 : decode cX0_go 11 = .ok (.ireturn, 1) := dk_172 (dk_at dksX0_go_0 11 rfl rfl)
theorem dX0_go_12 : decode cX0_go 12 = .ok (.aload_n 0, 1) := dk_42 (dk_at dksX0_go_0 12 rfl rfl)
theorem dX0_go_13 : decode cX0_go 13 = .ok (.invokevirtual 192, 3) := dk_182 0 192 (dk_at dksX0_go_0 13 rfl rfl)
theorem dX0_go_16 : decode cX0_go 16 = .ok (.aload_n 0, 1) := dk_42 (dk_at dksX0_go_0 16 rfl rfl)
theorem dX0_go_17 : decode cX0_go 17 = .ok (.getfield 12, 3) := dk_180 0 12 (dk_at dksX0_go_0 17 rfl rfl)
theorem dX0_go_20 : decode cX0_go 20 = .ok (.iload_n 1, 1) := dk_27 (dk_at dksX0_go_0 20 rfl rfl)
theorem dX0_go_21 : decode cX0_go 21 = .ok (.iload_n 2, 1) := dk_28 (dk_at dksX0_go_0 21 rfl rfl)
theorem dX0_go_22 : decode cX0_go 22 = .ok (.iload_n 3, 1) := dk_29 (dk_at dksX0_go_0 22 rfl rfl)
theorem dX0_go_23 : decode cX0_go 23 = .ok (.invokevirtual 195, 3) := dk_182 0 195 (dk_at dksX0_go_1 0 rfl rfl)
theorem dX0_go_26 : decode cX0_go 26 = .ok (.ifCond .eq 7, 3) := dk_153 0 7 (dk_at dksX0_go_1 3 rfl rfl)
theorem dX0_go_29 : decode cX0_go 29 = .ok (.iconst 1, 1) := dk_4 (dk_at dksX0_go_1 6 rfl rfl)
theorem dX0_go_30 : decode cX0_go 30 = .ok (.goto 4, 3) := dk_167 0 4 (dk_at dksX0_go_1 7 rfl rfl)
theorem dX0_go_33 : decode cX0_go 33 = .ok (.iconst 0, 1) := dk_3 (dk_at dksX0_go_1 10 rfl rfl)
theorem dX0_go_34 : decode cX0_go 34 = .ok (.ireturn, 1) := dk_172 (dk_at dksX0_go_1 11 rfl rfl)
abbrev cX0_keepAct : ByteArray := prog_1_method_4_code
def yX0_keepAct : MethodName := ⟨RX0, "keepAct", "()V"⟩
def dkwX0_keepAct_2 : List UInt8 := [180, 0, 31, 182, 0, 59, 177]
abbrev dktX0_keepAct_2 : List UInt8 := dkwX0_keepAct_2 ++ []
def dkwX0_keepAct_1 : List UInt8 := [180, 0, 27, 187, 0, 47, 89, 42, 180, 0, 12, 182, 0, 76, 183, 0, 49, 182, 0, 80, 87, 42]
abbrev dktX0_keepAct_1 : List UInt8 := dkwX0_keepAct_1 ++ dktX0_keepAct_2
def dkwX0_keepAct_0 : List UInt8 := [42, 180, 0, 27, 182, 0, 68, 16, 40, 160, 0, 12, 42, 180, 0, 27, 3, 182, 0, 72, 87, 42]
abbrev dktX0_keepAct_0 : List UInt8 := dkwX0_keepAct_0 ++ dktX0_keepAct_1
theorem dksX0_keepAct_0 : cX0_keepAct.data.toList.drop 0 = dktX0_keepAct_0 := by decide +kernel
theorem dksX0_keepAct_1 : cX0_keepAct.data.toList.drop 22 = dktX0_keepAct_1 := dk_seg dksX0_keepAct_0 22 rfl rfl
theorem dksX0_keepAct_2 : cX0_keepAct.data.toList.drop 44 = dktX0_keepAct_2 := dk_seg dksX0_keepAct_1 22 rfl rfl
theorem dX0_keepAct_0 : decode cX0_keepAct 0 = .ok (.aload_n 0, 1) := dk_42 (dk_at dksX0_keepAct_0 0 rfl rfl)
theorem dX0_keepAct_1 : decode cX0_keepAct 1 = .ok (.getfield 27, 3) := dk_180 0 27 (dk_at dksX0_keepAct_0 1 rfl rfl)
theorem dX0_keepAct_4 : decode cX0_keepAct 4 = .ok (.invokevirtual 68, 3) := dk_182 0 68 (dk_at dksX0_keepAct_0 4 rfl rfl)
theorem dX0_keepAct_7 : decode cX0_keepAct 7 = .ok (.bipush 40, 2) := dk_16 40 (dk_at dksX0_keepAct_0 7 rfl rfl)
theorem dX0_keepAct_9 : decode cX0_keepAct 9 = .ok (.if_icmp .ne 12, 3) := dk_160 0 12 (dk_at dksX0_keepAct_0 9 rfl rfl)
theorem dX0_keepAct_12 : decode cX0_keepAct 12 = .ok (.aload_n 0, 1) := dk_42 (dk_at dksX0_keepAct_0 12 rfl rfl)
theorem dX0_keepAct_13 : decode cX0_keepAct 13 = .ok (.getfield 27, 3) := dk_180 0 27 (dk_at dksX0_keepAct_0 13 rfl rfl)
theorem dX0_keepAct_16 : decode cX0_keepAct 16 = .ok (.iconst 0, 1) := dk_3 (dk_at dksX0_keepAct_0 16 rfl rfl)
theorem dX0_keepAct_17 : decode cX0_keepAct 17 = .ok (.invokevirtual 72, 3) := dk_182 0 72 (dk_at dksX0_keepAct_0 17 rfl rfl)
theorem dX0_keepAct_20 : decode cX0_keepAct 20 = .ok (.pop, 1) := dk_87 (dk_at dksX0_keepAct_0 20 rfl rfl)
theorem dX0_keepAct_21 : decode cX0_keepAct 21 = .ok (.aload_n 0, 1) := dk_42 (dk_at dksX0_keepAct_0 21 rfl rfl)
theorem dX0_keepAct_22 : decode cX0_keepAct 22 = .ok (.getfield 27, 3) := dk_180 0 27 (dk_at dksX0_keepAct_1 0 rfl rfl)
theorem dX0_keepAct_25 : decode cX0_keepAct 25 = .ok (.new 47, 3) := dk_187 0 47 (dk_at dksX0_keepAct_1 3 rfl rfl)
theorem dX0_keepAct_28 : decode cX0_keepAct 28 = .ok (.dup, 1) := dk_89 (dk_at dksX0_keepAct_1 6 rfl rfl)
theorem dX0_keepAct_29 : decode cX0_keepAct 29 = .ok (.aload_n 0, 1) := dk_42 (dk_at dksX0_keepAct_1 7 rfl rfl)
theorem dX0_keepAct_30 : decode cX0_keepAct 30 = .ok (.getfield 12, 3) := dk_180 0 12 (dk_at dksX0_keepAct_1 8 rfl rfl)
theorem dX0_keepAct_33 : decode cX0_keepAct 33 = .ok (.invokevirtual 76, 3) := dk_182 0 76 (dk_at dksX0_keepAct_1 11 rfl rfl)
theorem dX0_keepAct_36 : decode cX0_keepAct 36 = .ok (.invokespecial 49, 3) := dk_183 0 49 (dk_at dksX0_keepAct_1 14 rfl rfl)
theorem dX0_keepAct_39 : decode cX0_keepAct 39 = .ok (.invokevirtual 80, 3) := dk_182 0 80 (dk_at dksX0_keepAct_1 17 rfl rfl)
theorem dX0_keepAct_42 : decode cX0_keepAct 42 = .ok (.pop, 1) := dk_87 (dk_at dksX0_keepAct_1 20 rfl rfl)
theorem dX0_keepAct_43 : decode cX0_keepAct 43 = .ok (.aload_n 0, 1) := dk_42 (dk_at dksX0_keepAct_1 21 rfl rfl)
theorem dX0_keepAct_44 : decode cX0_keepAct 44 = .ok (.getfield 31, 3) := dk_180 0 31 (dk_at dksX0_keepAct_2 0 rfl rfl)
theorem dX0_keepAct_47 : decode cX0_keepAct 47 = .ok (.invokevirtual 59, 3) := dk_182 0 59 (dk_at dksX0_keepAct_2 3 rfl rfl)
theorem dX0_keepAct_50 : decode cX0_keepAct 50 = .ok (.return_, 1) := dk_177 (dk_at dksX0_keepAct_2 6 rfl rfl)
abbrev cX0_breathe : ByteArray := prog_1_method_21_code
def yX0_breathe : MethodName := ⟨RX0, "breathe", "(I)I"⟩
def dkwX0_breathe_2 : List UInt8 := [192, 0, 107, 180, 0, 164, 172]
abbrev dktX0_breathe_2 : List UInt8 := dkwX0_breathe_2 ++ []
def dkwX0_breathe_1 : List UInt8 := [180, 0, 94, 27, 182, 0, 104, 192, 0, 107, 182, 0, 198, 42, 180, 0, 12, 180, 0, 94, 27, 182, 0, 104]
abbrev dktX0_breathe_1 : List UInt8 := dkwX0_breathe_1 ++ dktX0_breathe_2
def dkwX0_breathe_0 : List UInt8 := [42, 27, 182, 0, 161, 154, 0, 5, 2, 172, 42, 182, 0, 192, 42, 180, 0, 12, 42, 180, 0, 12]
abbrev dktX0_breathe_0 : List UInt8 := dkwX0_breathe_0 ++ dktX0_breathe_1
theorem dksX0_breathe_0 : cX0_breathe.data.toList.drop 0 = dktX0_breathe_0 := by decide +kernel
theorem dksX0_breathe_1 : cX0_breathe.data.toList.drop 22 = dktX0_breathe_1 := dk_seg dksX0_breathe_0 22 rfl rfl
theorem dksX0_breathe_2 : cX0_breathe.data.toList.drop 46 = dktX0_breathe_2 := dk_seg dksX0_breathe_1 24 rfl rfl
theorem dX0_breathe_0 : decode cX0_breathe 0 = .ok (.aload_n 0, 1) := dk_42 (dk_at dksX0_breathe_0 0 rfl rfl)
theorem dX0_breathe_1 : decode cX0_breathe 1 = .ok (.iload_n 1, 1) := dk_27 (dk_at dksX0_breathe_0 1 rfl rfl)
theorem dX0_breathe_2 : decode cX0_breathe 2 = .ok (.invokevirtual 161, 3) := dk_182 0 161 (dk_at dksX0_breathe_0 2 rfl rfl)
theorem dX0_breathe_5 : decode cX0_breathe 5 = .ok (.ifCond .ne 5, 3) := dk_154 0 5 (dk_at dksX0_breathe_0 5 rfl rfl)
theorem dX0_breathe_8 : decode cX0_breathe 8 = .ok (.iconst (-1), 1) := dk_2 (dk_at dksX0_breathe_0 8 rfl rfl)
theorem dX0_breathe_9 : decode cX0_breathe 9 = .ok (.ireturn, 1) := dk_172 (dk_at dksX0_breathe_0 9 rfl rfl)
theorem dX0_breathe_10 : decode cX0_breathe 10 = .ok (.aload_n 0, 1) := dk_42 (dk_at dksX0_breathe_0 10 rfl rfl)
theorem dX0_breathe_11 : decode cX0_breathe 11 = .ok (.invokevirtual 192, 3) := dk_182 0 192 (dk_at dksX0_breathe_0 11 rfl rfl)
theorem dX0_breathe_14 : decode cX0_breathe 14 = .ok (.aload_n 0, 1) := dk_42 (dk_at dksX0_breathe_0 14 rfl rfl)
theorem dX0_breathe_15 : decode cX0_breathe 15 = .ok (.getfield 12, 3) := dk_180 0 12 (dk_at dksX0_breathe_0 15 rfl rfl)
theorem dX0_breathe_18 : decode cX0_breathe 18 = .ok (.aload_n 0, 1) := dk_42 (dk_at dksX0_breathe_0 18 rfl rfl)
theorem dX0_breathe_19 : decode cX0_breathe 19 = .ok (.getfield 12, 3) := dk_180 0 12 (dk_at dksX0_breathe_0 19 rfl rfl)
theorem dX0_breathe_22 : decode cX0_breathe 22 = .ok (.getfield 94, 3) := dk_180 0 94 (dk_at dksX0_breathe_1 0 rfl rfl)
theorem dX0_breathe_25 : decode cX0_breathe 25 = .ok (.iload_n 1, 1) := dk_27 (dk_at dksX0_breathe_1 3 rfl rfl)
theorem dX0_breathe_26 : decode cX0_breathe 26 = .ok (.invokevirtual 104, 3) := dk_182 0 104 (dk_at dksX0_breathe_1 4 rfl rfl)
theorem dX0_breathe_29 : decode cX0_breathe 29 = .ok (.checkcast 107, 3) := dk_192 0 107 (dk_at dksX0_breathe_1 7 rfl rfl)
theorem dX0_breathe_32 : decode cX0_breathe 32 = .ok (.invokevirtual 198, 3) := dk_182 0 198 (dk_at dksX0_breathe_1 10 rfl rfl)
theorem dX0_breathe_35 : decode cX0_breathe 35 = .ok (.aload_n 0, 1) := dk_42 (dk_at dksX0_breathe_1 13 rfl rfl)
theorem dX0_breathe_36 : decode cX0_breathe 36 = .ok (.getfield 12, 3) := dk_180 0 12 (dk_at dksX0_breathe_1 14 rfl rfl)
theorem dX0_breathe_39 : decode cX0_breathe 39 = .ok (.getfield 94, 3) := dk_180 0 94 (dk_at dksX0_breathe_1 17 rfl rfl)
theorem dX0_breathe_42 : decode cX0_breathe 42 = .ok (.iload_n 1, 1) := dk_27 (dk_at dksX0_breathe_1 20 rfl rfl)
theorem dX0_breathe_43 : decode cX0_breathe 43 = .ok (.invokevirtual 104, 3) := dk_182 0 104 (dk_at dksX0_breathe_1 21 rfl rfl)
theorem dX0_breathe_46 : decode cX0_breathe 46 = .ok (.checkcast 107, 3) := dk_192 0 107 (dk_at dksX0_breathe_2 0 rfl rfl)
theorem dX0_breathe_49 : decode cX0_breathe 49 = .ok (.getfield 164, 3) := dk_180 0 164 (dk_at dksX0_breathe_2 3 rfl rfl)
theorem dX0_breathe_52 : decode cX0_breathe 52 = .ok (.ireturn, 1) := dk_172 (dk_at dksX0_breathe_2 6 rfl rfl)
abbrev cX0_wave : ByteArray := prog_1_method_22_code
def yX0_wave : MethodName := ⟨RX0, "wave", "(I)I"⟩
def dkwX0_wave_0 : List UInt8 := [27, 3, 6, 184, 0, 90, 154, 0, 5, 2, 172, 42, 182, 0, 192, 42, 180, 0, 12, 27, 182, 0, 202, 172]
abbrev dktX0_wave_0 : List UInt8 := dkwX0_wave_0 ++ []
theorem dksX0_wave_0 : cX0_wave.data.toList.drop 0 = dktX0_wave_0 := by decide +kernel
theorem dX0_wave_0 : decode cX0_wave 0 = .ok (.iload_n 1, 1) := dk_27 (dk_at dksX0_wave_0 0 rfl rfl)
theorem dX0_wave_1 : decode cX0_wave 1 = .ok (.iconst 0, 1) := dk_3 (dk_at dksX0_wave_0 1 rfl rfl)
theorem dX0_wave_2 : decode cX0_wave 2 = .ok (.iconst 3, 1) := dk_6 (dk_at dksX0_wave_0 2 rfl rfl)
theorem dX0_wave_3 : decode cX0_wave 3 = .ok (.invokestatic 90, 3) := dk_184 0 90 (dk_at dksX0_wave_0 3 rfl rfl)
theorem dX0_wave_6 : decode cX0_wave 6 = .ok (.ifCond .ne 5, 3) := dk_154 0 5 (dk_at dksX0_wave_0 6 rfl rfl)
theorem dX0_wave_9 : decode cX0_wave 9 = .ok (.iconst (-1), 1) := dk_2 (dk_at dksX0_wave_0 9 rfl rfl)
theorem dX0_wave_10 : decode cX0_wave 10 = .ok (.ireturn, 1) := dk_172 (dk_at dksX0_wave_0 10 rfl rfl)
theorem dX0_wave_11 : decode cX0_wave 11 = .ok (.aload_n 0, 1) := dk_42 (dk_at dksX0_wave_0 11 rfl rfl)
theorem dX0_wave_12 : decode cX0_wave 12 = .ok (.invokevirtual 192, 3) := dk_182 0 192 (dk_at dksX0_wave_0 12 rfl rfl)
theorem dX0_wave_15 : decode cX0_wave 15 = .ok (.aload_n 0, 1) := dk_42 (dk_at dksX0_wave_0 15 rfl rfl)
theorem dX0_wave_16 : decode cX0_wave 16 = .ok (.getfield 12, 3) := dk_180 0 12 (dk_at dksX0_wave_0 16 rfl rfl)
theorem dX0_wave_19 : decode cX0_wave 19 = .ok (.iload_n 1, 1) := dk_27 (dk_at dksX0_wave_0 19 rfl rfl)
theorem dX0_wave_20 : decode cX0_wave 20 = .ok (.invokevirtual 202, 3) := dk_182 0 202 (dk_at dksX0_wave_0 20 rfl rfl)
theorem dX0_wave_23 : decode cX0_wave 23 = .ok (.ireturn, 1) := dk_172 (dk_at dksX0_wave_0 23 rfl rfl)
abbrev cX0_party : ByteArray := prog_1_method_23_code
def yX0_party : MethodName := ⟨RX0, "party", "(I)I"⟩
def dkwX0_party_3 : List UInt8 := [132, 4, 1, 167, 255, 212, 132, 3, 1, 167, 255, 198, 28, 172]
abbrev dktX0_party_3 : List UInt8 := dkwX0_party_3 ++ []
def dkwX0_party_2 : List UInt8 := [180, 0, 12, 21, 4, 42, 21, 4, 182, 0, 184, 182, 0, 206, 153, 0, 7, 4, 167, 0, 4, 3, 96, 61]
abbrev dktX0_party_2 : List UInt8 := dkwX0_party_2 ++ dktX0_party_3
def dkwX0_party_1 : List UInt8 := [162, 0, 59, 3, 54, 4, 21, 4, 42, 180, 0, 12, 180, 0, 94, 182, 0, 68, 162, 0, 35, 28, 42]
abbrev dktX0_party_1 : List UInt8 := dkwX0_party_1 ++ dktX0_party_2
def dkwX0_party_0 : List UInt8 := [27, 3, 16, 20, 184, 0, 90, 154, 0, 5, 2, 172, 42, 182, 0, 192, 3, 61, 3, 62, 29, 27]
abbrev dktX0_party_0 : List UInt8 := dkwX0_party_0 ++ dktX0_party_1
theorem dksX0_party_0 : cX0_party.data.toList.drop 0 = dktX0_party_0 := by decide +kernel
theorem dksX0_party_1 : cX0_party.data.toList.drop 22 = dktX0_party_1 := dk_seg dksX0_party_0 22 rfl rfl
theorem dksX0_party_2 : cX0_party.data.toList.drop 45 = dktX0_party_2 := dk_seg dksX0_party_1 23 rfl rfl
theorem dksX0_party_3 : cX0_party.data.toList.drop 69 = dktX0_party_3 := dk_seg dksX0_party_2 24 rfl rfl
theorem dX0_party_0 : decode cX0_party 0 = .ok (.iload_n 1, 1) := dk_27 (dk_at dksX0_party_0 0 rfl rfl)
theorem dX0_party_1 : decode cX0_party 1 = .ok (.iconst 0, 1) := dk_3 (dk_at dksX0_party_0 1 rfl rfl)
theorem dX0_party_2 : decode cX0_party 2 = .ok (.bipush 20, 2) := dk_16 20 (dk_at dksX0_party_0 2 rfl rfl)
theorem dX0_party_4 : decode cX0_party 4 = .ok (.invokestatic 90, 3) := dk_184 0 90 (dk_at dksX0_party_0 4 rfl rfl)
theorem dX0_party_7 : decode cX0_party 7 = .ok (.ifCond .ne 5, 3) := dk_154 0 5 (dk_at dksX0_party_0 7 rfl rfl)
theorem dX0_party_10 : decode cX0_party 10 = .ok (.iconst (-1), 1) := dk_2 (dk_at dksX0_party_0 10 rfl rfl)
theorem dX0_party_11 : decode cX0_party 11 = .ok (.ireturn, 1) := dk_172 (dk_at dksX0_party_0 11 rfl rfl)
theorem dX0_party_12 : decode cX0_party 12 = .ok (.aload_n 0, 1) := dk_42 (dk_at dksX0_party_0 12 rfl rfl)
theorem dX0_party_13 : decode cX0_party 13 = .ok (.invokevirtual 192, 3) := dk_182 0 192 (dk_at dksX0_party_0 13 rfl rfl)
theorem dX0_party_16 : decode cX0_party 16 = .ok (.iconst 0, 1) := dk_3 (dk_at dksX0_party_0 16 rfl rfl)
theorem dX0_party_17 : decode cX0_party 17 = .ok (.istore_n 2, 1) := dk_61 (dk_at dksX0_party_0 17 rfl rfl)
theorem dX0_party_18 : decode cX0_party 18 = .ok (.iconst 0, 1) := dk_3 (dk_at dksX0_party_0 18 rfl rfl)
theorem dX0_party_19 : decode cX0_party 19 = .ok (.istore_n 3, 1) := dk_62 (dk_at dksX0_party_0 19 rfl rfl)
theorem dX0_party_20 : decode cX0_party 20 = .ok (.iload_n 3, 1) := dk_29 (dk_at dksX0_party_0 20 rfl rfl)
theorem dX0_party_21 : decode cX0_party 21 = .ok (.iload_n 1, 1) := dk_27 (dk_at dksX0_party_0 21 rfl rfl)
theorem dX0_party_22 : decode cX0_party 22 = .ok (.if_icmp .ge 59, 3) := dk_162 0 59 (dk_at dksX0_party_1 0 rfl rfl)
theorem dX0_party_25 : decode cX0_party 25 = .ok (.iconst 0, 1) := dk_3 (dk_at dksX0_party_1 3 rfl rfl)
theorem dX0_party_26 : decode cX0_party 26 = .ok (.istore 4, 2) := dk_54 4 (dk_at dksX0_party_1 4 rfl rfl)
theorem dX0_party_28 : decode cX0_party 28 = .ok (.iload 4, 2) := dk_21 4 (dk_at dksX0_party_1 6 rfl rfl)
theorem dX0_party_30 : decode cX0_party 30 = .ok (.aload_n 0, 1) := dk_42 (dk_at dksX0_party_1 8 rfl rfl)
theorem dX0_party_31 : decode cX0_party 31 = .ok (.getfield 12, 3) := dk_180 0 12 (dk_at dksX0_party_1 9 rfl rfl)
theorem dX0_party_34 : decode cX0_party 34 = .ok (.getfield 94, 3) := dk_180 0 94 (dk_at dksX0_party_1 12 rfl rfl)
theorem dX0_party_37 : decode cX0_party 37 = .ok (.invokevirtual 68, 3) := dk_182 0 68 (dk_at dksX0_party_1 15 rfl rfl)
theorem dX0_party_40 : decode cX0_party 40 = .ok (.if_icmp .ge 35, 3) := dk_162 0 35 (dk_at dksX0_party_1 18 rfl rfl)
theorem dX0_party_43 : decode cX0_party 43 = .ok (.iload_n 2, 1) := dk_28 (dk_at dksX0_party_1 21 rfl rfl)
theorem dX0_party_44 : decode cX0_party 44 = .ok (.aload_n 0, 1) := dk_42 (dk_at dksX0_party_1 22 rfl rfl)
theorem dX0_party_45 : decode cX0_party 45 = .ok (.getfield 12, 3) := dk_180 0 12 (dk_at dksX0_party_2 0 rfl rfl)
theorem dX0_party_48 : decode cX0_party 48 = .ok (.iload 4, 2) := dk_21 4 (dk_at dksX0_party_2 3 rfl rfl)
theorem dX0_party_50 : decode cX0_party 50 = .ok (.aload_n 0, 1) := dk_42 (dk_at dksX0_party_2 5 rfl rfl)
theorem dX0_party_51 : decode cX0_party 51 = .ok (.iload 4, 2) := dk_21 4 (dk_at dksX0_party_2 6 rfl rfl)
theorem dX0_party_53 : decode cX0_party 53 = .ok (.invokevirtual 184, 3) := dk_182 0 184 (dk_at dksX0_party_2 8 rfl rfl)
theorem dX0_party_56 : decode cX0_party 56 = .ok (.invokevirtual 206, 3) := dk_182 0 206 (dk_at dksX0_party_2 11 rfl rfl)
theorem dX0_party_59 : decode cX0_party 59 = .ok (.ifCond .eq 7, 3) := dk_153 0 7 (dk_at dksX0_party_2 14 rfl rfl)
theorem dX0_party_62 : decode cX0_party 62 = .ok (.iconst 1, 1) := dk_4 (dk_at dksX0_party_2 17 rfl rfl)
theorem dX0_party_63 : decode cX0_party 63 = .ok (.goto 4, 3) := dk_167 0 4 (dk_at dksX0_party_2 18 rfl rfl)
theorem dX0_party_66 : decode cX0_party 66 = .ok (.iconst 0, 1) := dk_3 (dk_at dksX0_party_2 21 rfl rfl)
theorem dX0_party_67 : decode cX0_party 67 = .ok (.iadd, 1) := dk_96 (dk_at dksX0_party_2 22 rfl rfl)
theorem dX0_party_68 : decode cX0_party 68 = .ok (.istore_n 2, 1) := dk_61 (dk_at dksX0_party_2 23 rfl rfl)
theorem dX0_party_69 : decode cX0_party 69 = .ok (.iinc 4 1, 3) := dk_132 4 1 (dk_at dksX0_party_3 0 rfl rfl)
theorem dX0_party_72 : decode cX0_party 72 = .ok (.goto (-44), 3) := dk_167 255 212 (dk_at dksX0_party_3 3 rfl rfl)
theorem dX0_party_75 : decode cX0_party 75 = .ok (.iinc 3 1, 3) := dk_132 3 1 (dk_at dksX0_party_3 6 rfl rfl)
theorem dX0_party_78 : decode cX0_party 78 = .ok (.goto (-58), 3) := dk_167 255 198 (dk_at dksX0_party_3 9 rfl rfl)
theorem dX0_party_81 : decode cX0_party 81 = .ok (.iload_n 2, 1) := dk_28 (dk_at dksX0_party_3 12 rfl rfl)
theorem dX0_party_82 : decode cX0_party 82 = .ok (.ireturn, 1) := dk_172 (dk_at dksX0_party_3 13 rfl rfl)
abbrev cX0_undo : ByteArray := prog_1_method_24_code
def yX0_undo : MethodName := ⟨RX0, "undo", "()Z"⟩
def dkwX0_undo_1 : List UInt8 := [180, 0, 27, 182, 0, 68, 4, 100, 182, 0, 72, 192, 0, 47, 182, 0, 210, 182, 0, 80, 87, 4, 172]
abbrev dktX0_undo_1 : List UInt8 := dkwX0_undo_1 ++ []
def dkwX0_undo_0 : List UInt8 := [42, 180, 0, 27, 182, 0, 100, 153, 0, 5, 3, 172, 42, 180, 0, 31, 42, 42, 180, 0, 27, 42]
abbrev dktX0_undo_0 : List UInt8 := dkwX0_undo_0 ++ dktX0_undo_1
theorem dksX0_undo_0 : cX0_undo.data.toList.drop 0 = dktX0_undo_0 := by decide +kernel
theorem dksX0_undo_1 : cX0_undo.data.toList.drop 22 = dktX0_undo_1 := dk_seg dksX0_undo_0 22 rfl rfl
theorem dX0_undo_0 : decode cX0_undo 0 = .ok (.aload_n 0, 1) := dk_42 (dk_at dksX0_undo_0 0 rfl rfl)
theorem dX0_undo_1 : decode cX0_undo 1 = .ok (.getfield 27, 3) := dk_180 0 27 (dk_at dksX0_undo_0 1 rfl rfl)
theorem dX0_undo_4 : decode cX0_undo 4 = .ok (.invokevirtual 100, 3) := dk_182 0 100 (dk_at dksX0_undo_0 4 rfl rfl)
theorem dX0_undo_7 : decode cX0_undo 7 = .ok (.ifCond .eq 5, 3) := dk_153 0 5 (dk_at dksX0_undo_0 7 rfl rfl)
theorem dX0_undo_10 : decode cX0_undo 10 = .ok (.iconst 0, 1) := dk_3 (dk_at dksX0_undo_0 10 rfl rfl)
theorem dX0_undo_11 : decode cX0_undo 11 = .ok (.ireturn, 1) := dk_172 (dk_at dksX0_undo_0 11 rfl rfl)
theorem dX0_undo_12 : decode cX0_undo 12 = .ok (.aload_n 0, 1) := dk_42 (dk_at dksX0_undo_0 12 rfl rfl)
theorem dX0_undo_13 : decode cX0_undo 13 = .ok (.getfield 31, 3) := dk_180 0 31 (dk_at dksX0_undo_0 13 rfl rfl)
theorem dX0_undo_16 : decode cX0_undo 16 = .ok (.aload_n 0, 1) := dk_42 (dk_at dksX0_undo_0 16 rfl rfl)
theorem dX0_undo_17 : decode cX0_undo 17 = .ok (.aload_n 0, 1) := dk_42 (dk_at dksX0_undo_0 17 rfl rfl)
theorem dX0_undo_18 : decode cX0_undo 18 = .ok (.getfield 27, 3) := dk_180 0 27 (dk_at dksX0_undo_0 18 rfl rfl)
theorem dX0_undo_21 : decode cX0_undo 21 = .ok (.aload_n 0, 1) := dk_42 (dk_at dksX0_undo_0 21 rfl rfl)
theorem dX0_undo_22 : decode cX0_undo 22 = .ok (.getfield 27, 3) := dk_180 0 27 (dk_at dksX0_undo_1 0 rfl rfl)
theorem dX0_undo_25 : decode cX0_undo 25 = .ok (.invokevirtual 68, 3) := dk_182 0 68 (dk_at dksX0_undo_1 3 rfl rfl)
theorem dX0_undo_28 : decode cX0_undo 28 = .ok (.iconst 1, 1) := dk_4 (dk_at dksX0_undo_1 6 rfl rfl)
theorem dX0_undo_29 : decode cX0_undo 29 = .ok (.isub, 1) := dk_100 (dk_at dksX0_undo_1 7 rfl rfl)
theorem dX0_undo_30 : decode cX0_undo 30 = .ok (.invokevirtual 72, 3) := dk_182 0 72 (dk_at dksX0_undo_1 8 rfl rfl)
theorem dX0_undo_33 : decode cX0_undo 33 = .ok (.checkcast 47, 3) := dk_192 0 47 (dk_at dksX0_undo_1 11 rfl rfl)
theorem dX0_undo_36 : decode cX0_undo 36 = .ok (.invokevirtual 210, 3) := dk_182 0 210 (dk_at dksX0_undo_1 14 rfl rfl)
theorem dX0_undo_39 : decode cX0_undo 39 = .ok (.invokevirtual 80, 3) := dk_182 0 80 (dk_at dksX0_undo_1 17 rfl rfl)
theorem dX0_undo_42 : decode cX0_undo 42 = .ok (.pop, 1) := dk_87 (dk_at dksX0_undo_1 20 rfl rfl)
theorem dX0_undo_43 : decode cX0_undo 43 = .ok (.iconst 1, 1) := dk_4 (dk_at dksX0_undo_1 21 rfl rfl)
theorem dX0_undo_44 : decode cX0_undo 44 = .ok (.ireturn, 1) := dk_172 (dk_at dksX0_undo_1 22 rfl rfl)
abbrev cX0_turned : ByteArray := prog_1_method_5_code
def yX0_turned : MethodName := ⟨RX0, "turned", "(LTubBites$Kept;)LTubBites$Kept;"⟩
def dkwX0_turned_1 : List UInt8 := [43, 176]
abbrev dktX0_turned_1 : List UInt8 := dkwX0_turned_1 ++ []
def dkwX0_turned_0 : List UInt8 := [42, 180, 0, 12, 182, 0, 76, 77, 42, 180, 0, 12, 43, 180, 0, 65, 182, 0, 84, 43, 44, 181, 0, 65]
abbrev dktX0_turned_0 : List UInt8 := dkwX0_turned_0 ++ dktX0_turned_1
theorem dksX0_turned_0 : cX0_turned.data.toList.drop 0 = dktX0_turned_0 := by decide +kernel
theorem dksX0_turned_1 : cX0_turned.data.toList.drop 24 = dktX0_turned_1 := dk_seg dksX0_turned_0 24 rfl rfl
theorem dX0_turned_0 : decode cX0_turned 0 = .ok (.aload_n 0, 1) := dk_42 (dk_at dksX0_turned_0 0 rfl rfl)
theorem dX0_turned_1 : decode cX0_turned 1 = .ok (.getfield 12, 3) := dk_180 0 12 (dk_at dksX0_turned_0 1 rfl rfl)
theorem dX0_turned_4 : decode cX0_turned 4 = .ok (.invokevirtual 76, 3) := dk_182 0 76 (dk_at dksX0_turned_0 4 rfl rfl)
theorem dX0_turned_7 : decode cX0_turned 7 = .ok (.astore_n 2, 1) := dk_77 (dk_at dksX0_turned_0 7 rfl rfl)
theorem dX0_turned_8 : decode cX0_turned 8 = .ok (.aload_n 0, 1) := dk_42 (dk_at dksX0_turned_0 8 rfl rfl)
theorem dX0_turned_9 : decode cX0_turned 9 = .ok (.getfield 12, 3) := dk_180 0 12 (dk_at dksX0_turned_0 9 rfl rfl)
theorem dX0_turned_12 : decode cX0_turned 12 = .ok (.aload_n 1, 1) := dk_43 (dk_at dksX0_turned_0 12 rfl rfl)
theorem dX0_turned_13 : decode cX0_turned 13 = .ok (.getfield 65, 3) := dk_180 0 65 (dk_at dksX0_turned_0 13 rfl rfl)
theorem dX0_turned_16 : decode cX0_turned 16 = .ok (.invokevirtual 84, 3) := dk_182 0 84 (dk_at dksX0_turned_0 16 rfl rfl)
theorem dX0_turned_19 : decode cX0_turned 19 = .ok (.aload_n 1, 1) := dk_43 (dk_at dksX0_turned_0 19 rfl rfl)
theorem dX0_turned_20 : decode cX0_turned 20 = .ok (.aload_n 2, 1) := dk_44 (dk_at dksX0_turned_0 20 rfl rfl)
theorem dX0_turned_21 : decode cX0_turned 21 = .ok (.putfield 65, 3) := dk_181 0 65 (dk_at dksX0_turned_0 21 rfl rfl)
theorem dX0_turned_24 : decode cX0_turned 24 = .ok (.aload_n 1, 1) := dk_43 (dk_at dksX0_turned_1 0 rfl rfl)
theorem dX0_turned_25 : decode cX0_turned 25 = .ok (.areturn, 1) := dk_176 (dk_at dksX0_turned_1 1 rfl rfl)
abbrev cX0_redo : ByteArray := prog_1_method_25_code
def yX0_redo : MethodName := ⟨RX0, "redo", "()Z"⟩
def dkwX0_redo_1 : List UInt8 := [180, 0, 31, 182, 0, 68, 4, 100, 182, 0, 72, 192, 0, 47, 182, 0, 210, 182, 0, 80, 87, 4, 172]
abbrev dktX0_redo_1 : List UInt8 := dkwX0_redo_1 ++ []
def dkwX0_redo_0 : List UInt8 := [42, 180, 0, 31, 182, 0, 100, 153, 0, 5, 3, 172, 42, 180, 0, 27, 42, 42, 180, 0, 31, 42]
abbrev dktX0_redo_0 : List UInt8 := dkwX0_redo_0 ++ dktX0_redo_1
theorem dksX0_redo_0 : cX0_redo.data.toList.drop 0 = dktX0_redo_0 := by decide +kernel
theorem dksX0_redo_1 : cX0_redo.data.toList.drop 22 = dktX0_redo_1 := dk_seg dksX0_redo_0 22 rfl rfl
theorem dX0_redo_0 : decode cX0_redo 0 = .ok (.aload_n 0, 1) := dk_42 (dk_at dksX0_redo_0 0 rfl rfl)
theorem dX0_redo_1 : decode cX0_redo 1 = .ok (.getfield 31, 3) := dk_180 0 31 (dk_at dksX0_redo_0 1 rfl rfl)
theorem dX0_redo_4 : decode cX0_redo 4 = .ok (.invokevirtual 100, 3) := dk_182 0 100 (dk_at dksX0_redo_0 4 rfl rfl)
theorem dX0_redo_7 : decode cX0_redo 7 = .ok (.ifCond .eq 5, 3) := dk_153 0 5 (dk_at dksX0_redo_0 7 rfl rfl)
theorem dX0_redo_10 : decode cX0_redo 10 = .ok (.iconst 0, 1) := dk_3 (dk_at dksX0_redo_0 10 rfl rfl)
theorem dX0_redo_11 : decode cX0_redo 11 = .ok (.ireturn, 1) := dk_172 (dk_at dksX0_redo_0 11 rfl rfl)
theorem dX0_redo_12 : decode cX0_redo 12 = .ok (.aload_n 0, 1) := dk_42 (dk_at dksX0_redo_0 12 rfl rfl)
theorem dX0_redo_13 : decode cX0_redo 13 = .ok (.getfield 27, 3) := dk_180 0 27 (dk_at dksX0_redo_0 13 rfl rfl)
theorem dX0_redo_16 : decode cX0_redo 16 = .ok (.aload_n 0, 1) := dk_42 (dk_at dksX0_redo_0 16 rfl rfl)
theorem dX0_redo_17 : decode cX0_redo 17 = .ok (.aload_n 0, 1) := dk_42 (dk_at dksX0_redo_0 17 rfl rfl)
theorem dX0_redo_18 : decode cX0_redo 18 = .ok (.getfield 31, 3) := dk_180 0 31 (dk_at dksX0_redo_0 18 rfl rfl)
theorem dX0_redo_21 : decode cX0_redo 21 = .ok (.aload_n 0, 1) := dk_42 (dk_at dksX0_redo_0 21 rfl rfl)
theorem dX0_redo_22 : decode cX0_redo 22 = .ok (.getfield 31, 3) := dk_180 0 31 (dk_at dksX0_redo_1 0 rfl rfl)
theorem dX0_redo_25 : decode cX0_redo 25 = .ok (.invokevirtual 68, 3) := dk_182 0 68 (dk_at dksX0_redo_1 3 rfl rfl)
theorem dX0_redo_28 : decode cX0_redo 28 = .ok (.iconst 1, 1) := dk_4 (dk_at dksX0_redo_1 6 rfl rfl)
theorem dX0_redo_29 : decode cX0_redo 29 = .ok (.isub, 1) := dk_100 (dk_at dksX0_redo_1 7 rfl rfl)
theorem dX0_redo_30 : decode cX0_redo 30 = .ok (.invokevirtual 72, 3) := dk_182 0 72 (dk_at dksX0_redo_1 8 rfl rfl)
theorem dX0_redo_33 : decode cX0_redo 33 = .ok (.checkcast 47, 3) := dk_192 0 47 (dk_at dksX0_redo_1 11 rfl rfl)
theorem dX0_redo_36 : decode cX0_redo 36 = .ok (.invokevirtual 210, 3) := dk_182 0 210 (dk_at dksX0_redo_1 14 rfl rfl)
theorem dX0_redo_39 : decode cX0_redo 39 = .ok (.invokevirtual 80, 3) := dk_182 0 80 (dk_at dksX0_redo_1 17 rfl rfl)
theorem dX0_redo_42 : decode cX0_redo 42 = .ok (.pop, 1) := dk_87 (dk_at dksX0_redo_1 20 rfl rfl)
theorem dX0_redo_43 : decode cX0_redo 43 = .ok (.iconst 1, 1) := dk_4 (dk_at dksX0_redo_1 21 rfl rfl)
theorem dX0_redo_44 : decode cX0_redo 44 = .ok (.ireturn, 1) := dk_172 (dk_at dksX0_redo_1 22 rfl rfl)
abbrev cX0_best : ByteArray := prog_1_method_27_code
def yX0_best : MethodName := ⟨RX0, "best", "(III)I"⟩
def dkwX0_best_5 : List UInt8 := [16, 254, 160, 0, 7, 4, 167, 0, 4, 3, 172]
abbrev dktX0_best_5 : List UInt8 := dkwX0_best_5 ++ []
def dkwX0_best_4 : List UInt8 := [167, 0, 33, 29, 4, 160, 0, 14, 2, 42, 180, 0, 246, 184, 0, 252, 167, 0, 17, 42, 180, 0, 246]
abbrev dktX0_best_4 : List UInt8 := dkwX0_best_4 ++ dktX0_best_5
def dkwX0_best_3 : List UInt8 := [180, 0, 12, 25, 4, 182, 0, 84, 21, 5, 156, 0, 6, 16, 254, 172, 29, 154, 0, 8, 21, 5]
abbrev dktX0_best_3 : List UInt8 := dkwX0_best_3 ++ dktX0_best_4
def dkwX0_best_2 : List UInt8 := [42, 42, 180, 0, 12, 180, 0, 94, 27, 182, 0, 104, 192, 0, 107, 28, 3, 182, 0, 233, 54, 5, 42]
abbrev dktX0_best_2 : List UInt8 := dkwX0_best_2 ++ dktX0_best_3
def dkwX0_best_1 : List UInt8 := [154, 0, 5, 2, 172, 42, 3, 181, 0, 214, 42, 2, 181, 0, 246, 42, 180, 0, 12, 182, 0, 76, 58, 4]
abbrev dktX0_best_1 : List UInt8 := dkwX0_best_1 ++ dktX0_best_2
def dkwX0_best_0 : List UInt8 := [42, 27, 182, 0, 161, 153, 0, 22, 28, 3, 16, 8, 184, 0, 90, 153, 0, 12, 29, 3, 5, 184, 0, 90]
abbrev dktX0_best_0 : List UInt8 := dkwX0_best_0 ++ dktX0_best_1
theorem dksX0_best_0 : cX0_best.data.toList.drop 0 = dktX0_best_0 := by decide +kernel
theorem dksX0_best_1 : cX0_best.data.toList.drop 24 = dktX0_best_1 := dk_seg dksX0_best_0 24 rfl rfl
theorem dksX0_best_2 : cX0_best.data.toList.drop 48 = dktX0_best_2 := dk_seg dksX0_best_1 24 rfl rfl
theorem dksX0_best_3 : cX0_best.data.toList.drop 71 = dktX0_best_3 := dk_seg dksX0_best_2 23 rfl rfl
theorem dksX0_best_4 : cX0_best.data.toList.drop 93 = dktX0_best_4 := dk_seg dksX0_best_3 22 rfl rfl
theorem dksX0_best_5 : cX0_best.data.toList.drop 116 = dktX0_best_5 := dk_seg dksX0_best_4 23 rfl rfl
theorem dX0_best_0 : decode cX0_best 0 = .ok (.aload_n 0, 1) := dk_42 (dk_at dksX0_best_0 0 rfl rfl)
theorem dX0_best_1 : decode cX0_best 1 = .ok (.iload_n 1, 1) := dk_27 (dk_at dksX0_best_0 1 rfl rfl)
theorem dX0_best_2 : decode cX0_best 2 = .ok (.invokevirtual 161, 3) := dk_182 0 161 (dk_at dksX0_best_0 2 rfl rfl)
theorem dX0_best_5 : decode cX0_best 5 = .ok (.ifCond .eq 22, 3) := dk_153 0 22 (dk_at dksX0_best_0 5 rfl rfl)
theorem dX0_best_8 : decode cX0_best 8 = .ok (.iload_n 2, 1) := dk_28 (dk_at dksX0_best_0 8 rfl rfl)
theorem dX0_best_9 : decode cX0_best 9 = .ok (.iconst 0, 1) := dk_3 (dk_at dksX0_best_0 9 rfl rfl)
theorem dX0_best_10 : decode cX0_best 10 = .ok (.bipush 8, 2) := dk_16 8 (dk_at dksX0_best_0 10 rfl rfl)
theorem dX0_best_12 : decode cX0_best 12 = .ok (.invokestatic 90, 3) := dk_184 0 90 (dk_at dksX0_best_0 12 rfl rfl)
theorem dX0_best_15 : decode cX0_best 15 = .ok (.ifCond .eq 12, 3) := dk_153 0 12 (dk_at dksX0_best_0 15 rfl rfl)
theorem dX0_best_18 : decode cX0_best 18 = .ok (.iload_n 3, 1) := dk_29 (dk_at dksX0_best_0 18 rfl rfl)
theorem dX0_best_19 : decode cX0_best 19 = .ok (.iconst 0, 1) := dk_3 (dk_at dksX0_best_0 19 rfl rfl)
theorem dX0_best_20 : decode cX0_best 20 = .ok (.iconst 2, 1) := dk_5 (dk_at dksX0_best_0 20 rfl rfl)
theorem dX0_best_21 : decode cX0_best 21 = .ok (.invokestatic 90, 3) := dk_184 0 90 (dk_at dksX0_best_0 21 rfl rfl)
theorem dX0_best_24 : decode cX0_best 24 = .ok (.ifCond .ne 5, 3) := dk_154 0 5 (dk_at dksX0_best_1 0 rfl rfl)
theorem dX0_best_27 : decode cX0_best 27 = .ok (.iconst (-1), 1) := dk_2 (dk_at dksX0_best_1 3 rfl rfl)
theorem dX0_best_28 : decode cX0_best 28 = .ok (.ireturn, 1) := dk_172 (dk_at dksX0_best_1 4 rfl rfl)
theorem dX0_best_29 : decode cX0_best 29 = .ok (.aload_n 0, 1) := dk_42 (dk_at dksX0_best_1 5 rfl rfl)
theorem dX0_best_30 : decode cX0_best 30 = .ok (.iconst 0, 1) := dk_3 (dk_at dksX0_best_1 6 rfl rfl)
theorem dX0_best_31 : decode cX0_best 31 = .ok (.putfield 214, 3) := dk_181 0 214 (dk_at dksX0_best_1 7 rfl rfl)
theorem dX0_best_34 : decode cX0_best 34 = .ok (.aload_n 0, 1) := dk_42 (dk_at dksX0_best_1 10 rfl rfl)
theorem dX0_best_35 : decode cX0_best 35 = .ok (.iconst (-1), 1) := dk_2 (dk_at dksX0_best_1 11 rfl rfl)
theorem dX0_best_36 : decode cX0_best 36 = .ok (.putfield 246, 3) := dk_181 0 246 (dk_at dksX0_best_1 12 rfl rfl)
theorem dX0_best_39 : decode cX0_best 39 = .ok (.aload_n 0, 1) := dk_42 (dk_at dksX0_best_1 15 rfl rfl)
theorem dX0_best_40 : decode cX0_best 40 = .ok (.getfield 12, 3) := dk_180 0 12 (dk_at dksX0_best_1 16 rfl rfl)
theorem dX0_best_43 : decode cX0_best 43 = .ok (.invokevirtual 76, 3) := dk_182 0 76 (dk_at dksX0_best_1 19 rfl rfl)
theorem dX0_best_46 : decode cX0_best 46 = .ok (.astore 4, 2) := dk_58 4 (dk_at dksX0_best_1 22 rfl rfl)
theorem dX0_best_48 : decode cX0_best 48 = .ok (.aload_n 0, 1) := dk_42 (dk_at dksX0_best_2 0 rfl rfl)
theorem dX0_best_49 : decode cX0_best 49 = .ok (.aload_n 0, 1) := dk_42 (dk_at dksX0_best_2 1 rfl rfl)
theorem dX0_best_50 : decode cX0_best 50 = .ok (.getfield 12, 3) := dk_180 0 12 (dk_at dksX0_best_2 2 rfl rfl)
theorem dX0_best_53 : decode cX0_best 53 = .ok (.getfield 94, 3) := dk_180 0 94 (dk_at dksX0_best_2 5 rfl rfl)
theorem dX0_best_56 : decode cX0_best 56 = .ok (.iload_n 1, 1) := dk_27 (dk_at dksX0_best_2 8 rfl rfl)
theorem dX0_best_57 : decode cX0_best 57 = .ok (.invokevirtual 104, 3) := dk_182 0 104 (dk_at dksX0_best_2 9 rfl rfl)
theorem dX0_best_60 : decode cX0_best 60 = .ok (.checkcast 107, 3) := dk_192 0 107 (dk_at dksX0_best_2 12 rfl rfl)
theorem dX0_best_63 : decode cX0_best 63 = .ok (.iload_n 2, 1) := dk_28 (dk_at dksX0_best_2 15 rfl rfl)
theorem dX0_best_64 : decode cX0_best 64 = .ok (.iconst 0, 1) := dk_3 (dk_at dksX0_best_2 16 rfl rfl)
theorem dX0_best_65 : decode cX0_best 65 = .ok (.invokevirtual 233, 3) := dk_182 0 233 (dk_at dksX0_best_2 17 rfl rfl)
theorem dX0_best_68 : decode cX0_best 68 = .ok (.istore 5, 2) := dk_54 5 (dk_at dksX0_best_2 20 rfl rfl)
theorem dX0_best_70 : decode cX0_best 70 = .ok (.aload_n 0, 1) := dk_42 (dk_at dksX0_best_2 22 rfl rfl)
theorem dX0_best_71 : decode cX0_best 71 = .ok (.getfield 12, 3) := dk_180 0 12 (dk_at dksX0_best_3 0 rfl rfl)
theorem dX0_best_74 : decode cX0_best 74 = .ok (.aload 4, 2) := dk_25 4 (dk_at dksX0_best_3 3 rfl rfl)
theorem dX0_best_76 : decode cX0_best 76 = .ok (.invokevirtual 84, 3) := dk_182 0 84 (dk_at dksX0_best_3 5 rfl rfl)
theorem dX0_best_79 : decode cX0_best 79 = .ok (.iload 5, 2) := dk_21 5 (dk_at dksX0_best_3 8 rfl rfl)
theorem dX0_best_81 : decode cX0_best 81 = .ok (.ifCond .ge 6, 3) := dk_156 0 6 (dk_at dksX0_best_3 10 rfl rfl)
theorem dX0_best_84 : decode cX0_best 84 = .ok (.bipush (-2), 2) := dk_16 254 (dk_at dksX0_best_3 13 rfl rfl)
theorem dX0_best_86 : decode cX0_best 86 = .ok (.ireturn, 1) := dk_172 (dk_at dksX0_best_3 15 rfl rfl)
theorem dX0_best_87 : decode cX0_best 87 = .ok (.iload_n 3, 1) := dk_29 (dk_at dksX0_best_3 16 rfl rfl)
theorem dX0_best_88 : decode cX0_best 88 = .ok (.ifCond .ne 8, 3) := dk_154 0 8 (dk_at dksX0_best_3 17 rfl rfl)
theorem dX0_best_91 : decode cX0_best 91 = .ok (.iload 5, 2) := dk_21 5 (dk_at dksX0_best_3 20 rfl rfl)
theorem dX0_best_93 : decode cX0_best 93 = .ok (.goto 33, 3) := dk_167 0 33 (dk_at dksX0_best_4 0 rfl rfl)
theorem dX0_best_96 : decode cX0_best 96 = .ok (.iload_n 3, 1) := dk_29 (dk_at dksX0_best_4 3 rfl rfl)
theorem dX0_best_97 : decode cX0_best 97 = .ok (.iconst 1, 1) := dk_4 (dk_at dksX0_best_4 4 rfl rfl)
theorem dX0_best_98 : decode cX0_best 98 = .ok (.if_icmp .ne 14, 3) := dk_160 0 14 (dk_at dksX0_best_4 5 rfl rfl)
theorem dX0_best_101 : decode cX0_best 101 = .ok (.iconst (-1), 1) := dk_2 (dk_at dksX0_best_4 8 rfl rfl)
theorem dX0_best_102 : decode cX0_best 102 = .ok (.aload_n 0, 1) := dk_42 (dk_at dksX0_best_4 9 rfl rfl)
theorem dX0_best_103 : decode cX0_best 103 = .ok (.getfield 246, 3) := dk_180 0 246 (dk_at dksX0_best_4 10 rfl rfl)
theorem dX0_best_106 : decode cX0_best 106 = .ok (.invokestatic 252, 3) := dk_184 0 252 (dk_at dksX0_best_4 13 rfl rfl)
theorem dX0_best_109 : decode cX0_best 109 = .ok (.goto 17, 3) := dk_167 0 17 (dk_at dksX0_best_4 16 rfl rfl)
theorem dX0_best_112 : decode cX0_best 112 = .ok (.aload_n 0, 1) := dk_42 (dk_at dksX0_best_4 19 rfl rfl)
theorem dX0_best_113 : decode cX0_best 113 = .ok (.getfield 246, 3) := dk_180 0 246 (dk_at dksX0_best_4 20 rfl rfl)
theorem dX0_best_116 : decode cX0_best 116 = .ok (.bipush (-2), 2) := dk_16 254 (dk_at dksX0_best_5 0 rfl rfl)
theorem dX0_best_118 : decode cX0_best 118 = .ok (.if_icmp .ne 7, 3) := dk_160 0 7 (dk_at dksX0_best_5 2 rfl rfl)
theorem dX0_best_121 : decode cX0_best 121 = .ok (.iconst 1, 1) := dk_4 (dk_at dksX0_best_5 5 rfl rfl)
theorem dX0_best_122 : decode cX0_best 122 = .ok (.goto 4, 3) := dk_167 0 4 (dk_at dksX0_best_5 6 rfl rfl)
theorem dX0_best_125 : decode cX0_best 125 = .ok (.iconst 0, 1) := dk_3 (dk_at dksX0_best_5 9 rfl rfl)
theorem dX0_best_126 : decode cX0_best 126 = .ok (.ireturn, 1) := dk_172 (dk_at dksX0_best_5 10 rfl rfl)
abbrev cX0_bestOf : ByteArray := prog_1_method_26_code
def yX0_bestOf : MethodName := ⟨RX0, "bestOf", "(LTubBites$Bobber;II)I"⟩
def dkwX0_bestOf_17 : List UInt8 := [184, 0, 252, 172]
abbrev dktX0_bestOf_17 : List UInt8 := dkwX0_bestOf_17 ++ []
def dkwX0_bestOf_16 : List UInt8 := [172, 21, 6, 21, 4, 164, 0, 13, 29, 154, 0, 9, 42, 16, 254, 181, 0, 246, 21, 4, 21, 6]
abbrev dktX0_bestOf_16 : List UInt8 := dkwX0_bestOf_16 ++ dktX0_bestOf_17
def dkwX0_bestOf_15 : List UInt8 := [182, 0, 233, 54, 6, 42, 180, 0, 12, 42, 180, 0, 34, 21, 5, 182, 0, 237, 21, 6, 156, 0, 5, 2]
abbrev dktX0_bestOf_15 : List UInt8 := dkwX0_bestOf_15 ++ dktX0_bestOf_16
def dkwX0_bestOf_14 : List UInt8 := [160, 0, 6, 21, 4, 172, 42, 180, 0, 12, 43, 182, 0, 198, 42, 43, 28, 5, 100, 29, 4, 96]
abbrev dktX0_bestOf_14 : List UInt8 := dkwX0_bestOf_14 ++ dktX0_bestOf_15
def dkwX0_bestOf_13 : List UInt8 := [167, 255, 15, 132, 6, 1, 167, 254, 247, 28, 5, 161, 0, 14, 43, 180, 0, 164, 43, 180, 0, 249]
abbrev dktX0_bestOf_13 : List UInt8 := dkwX0_bestOf_13 ++ dktX0_bestOf_14
def dkwX0_bestOf_12 : List UInt8 := [21, 13, 54, 4, 29, 154, 0, 15, 42, 16, 10, 21, 6, 104, 21, 7, 96, 181, 0, 246, 132, 7, 1]
abbrev dktX0_bestOf_12 : List UInt8 := dkwX0_bestOf_12 ++ dktX0_bestOf_13
def dkwX0_bestOf_11 : List UInt8 := [100, 133, 21, 12, 133, 105, 97, 20, 0, 244, 109, 136, 54, 13, 21, 13, 21, 4, 163, 0, 6, 167, 0, 23]
abbrev dktX0_bestOf_11 : List UInt8 := dkwX0_bestOf_11 ++ dktX0_bestOf_12
def dkwX0_bestOf_10 : List UInt8 := [155, 0, 8, 21, 12, 156, 0, 5, 2, 172, 21, 10, 133, 18, 243, 21, 11, 96, 133, 105, 16, 100, 21, 10]
abbrev dktX0_bestOf_10 : List UInt8 := dkwX0_bestOf_10 ++ dktX0_bestOf_11
def dkwX0_bestOf_9 : List UInt8 := [100, 29, 4, 96, 182, 0, 233, 54, 12, 42, 180, 0, 12, 42, 180, 0, 34, 21, 5, 182, 0, 237, 21, 11]
abbrev dktX0_bestOf_9 : List UInt8 := dkwX0_bestOf_9 ++ dktX0_bestOf_10
def dkwX0_bestOf_8 : List UInt8 := [182, 0, 229, 178, 0, 221, 21, 7, 50, 42, 180, 0, 12, 43, 25, 8, 182, 0, 240, 42, 43, 28, 21, 9]
abbrev dktX0_bestOf_8 : List UInt8 := dkwX0_bestOf_8 ++ dktX0_bestOf_9
def dkwX0_bestOf_7 : List UInt8 := [54, 11, 42, 180, 0, 12, 42, 180, 0, 34, 21, 5, 182, 0, 237, 42, 180, 0, 12, 43, 21, 7]
abbrev dktX0_bestOf_7 : List UInt8 := dkwX0_bestOf_7 ++ dktX0_bestOf_8
def dkwX0_bestOf_6 : List UInt8 := [43, 21, 7, 182, 0, 229, 25, 8, 3, 181, 0, 153, 42, 43, 28, 21, 9, 100, 29, 4, 96, 182, 0, 233]
abbrev dktX0_bestOf_6 : List UInt8 := dkwX0_bestOf_6 ++ dktX0_bestOf_7
def dkwX0_bestOf_5 : List UInt8 := [154, 0, 6, 167, 0, 183, 42, 180, 0, 12, 43, 25, 8, 21, 7, 182, 0, 180, 54, 10, 42, 180, 0, 12]
abbrev dktX0_bestOf_5 : List UInt8 := dkwX0_bestOf_5 ++ dktX0_bestOf_6
def dkwX0_bestOf_4 : List UInt8 := [182, 0, 225, 54, 9, 21, 9, 28, 163, 0, 201, 42, 180, 0, 12, 43, 25, 8, 21, 7, 182, 0, 173]
abbrev dktX0_bestOf_4 : List UInt8 := dkwX0_bestOf_4 ++ dktX0_bestOf_5
def dkwX0_bestOf_3 : List UInt8 := [42, 180, 0, 12, 180, 0, 87, 21, 6, 182, 0, 104, 192, 0, 145, 58, 8, 178, 0, 221, 21, 7, 50]
abbrev dktX0_bestOf_3 : List UInt8 := dkwX0_bestOf_3 ++ dktX0_bestOf_4
def dkwX0_bestOf_2 : List UInt8 := [21, 6, 42, 180, 0, 12, 180, 0, 87, 182, 0, 68, 162, 1, 0, 3, 54, 7, 21, 7, 8, 162, 0, 241]
abbrev dktX0_bestOf_2 : List UInt8 := dkwX0_bestOf_2 ++ dktX0_bestOf_3
def dkwX0_bestOf_1 : List UInt8 := [54, 4, 16, 123, 29, 104, 54, 5, 42, 180, 0, 12, 42, 180, 0, 34, 21, 5, 182, 0, 217, 3, 54, 6]
abbrev dktX0_bestOf_1 : List UInt8 := dkwX0_bestOf_1 ++ dktX0_bestOf_2
def dkwX0_bestOf_0 : List UInt8 := [42, 89, 180, 0, 214, 4, 96, 181, 0, 214, 42, 180, 0, 214, 17, 78, 32, 164, 0, 5, 2, 172, 3]
abbrev dktX0_bestOf_0 : List UInt8 := dkwX0_bestOf_0 ++ dktX0_bestOf_1
theorem dksX0_bestOf_0 : cX0_bestOf.data.toList.drop 0 = dktX0_bestOf_0 := by decide +kernel
theorem dksX0_bestOf_1 : cX0_bestOf.data.toList.drop 23 = dktX0_bestOf_1 := dk_seg dksX0_bestOf_0 23 rfl rfl
theorem dksX0_bestOf_2 : cX0_bestOf.data.toList.drop 47 = dktX0_bestOf_2 := dk_seg dksX0_bestOf_1 24 rfl rfl
theorem dksX0_bestOf_3 : cX0_bestOf.data.toList.drop 71 = dktX0_bestOf_3 := dk_seg dksX0_bestOf_2 24 rfl rfl
theorem dksX0_bestOf_4 : cX0_bestOf.data.toList.drop 94 = dktX0_bestOf_4 := dk_seg dksX0_bestOf_3 23 rfl rfl
theorem dksX0_bestOf_5 : cX0_bestOf.data.toList.drop 117 = dktX0_bestOf_5 := dk_seg dksX0_bestOf_4 23 rfl rfl
theorem dksX0_bestOf_6 : cX0_bestOf.data.toList.drop 141 = dktX0_bestOf_6 := dk_seg dksX0_bestOf_5 24 rfl rfl
theorem dksX0_bestOf_7 : cX0_bestOf.data.toList.drop 165 = dktX0_bestOf_7 := dk_seg dksX0_bestOf_6 24 rfl rfl
theorem dksX0_bestOf_8 : cX0_bestOf.data.toList.drop 187 = dktX0_bestOf_8 := dk_seg dksX0_bestOf_7 22 rfl rfl
theorem dksX0_bestOf_9 : cX0_bestOf.data.toList.drop 211 = dktX0_bestOf_9 := dk_seg dksX0_bestOf_8 24 rfl rfl
theorem dksX0_bestOf_10 : cX0_bestOf.data.toList.drop 235 = dktX0_bestOf_10 := dk_seg dksX0_bestOf_9 24 rfl rfl
theorem dksX0_bestOf_11 : cX0_bestOf.data.toList.drop 259 = dktX0_bestOf_11 := dk_seg dksX0_bestOf_10 24 rfl rfl
theorem dksX0_bestOf_12 : cX0_bestOf.data.toList.drop 283 = dktX0_bestOf_12 := dk_seg dksX0_bestOf_11 24 rfl rfl
theorem dksX0_bestOf_13 : cX0_bestOf.data.toList.drop 306 = dktX0_bestOf_13 := dk_seg dksX0_bestOf_12 23 rfl rfl
theorem dksX0_bestOf_14 : cX0_bestOf.data.toList.drop 328 = dktX0_bestOf_14 := dk_seg dksX0_bestOf_13 22 rfl rfl
theorem dksX0_bestOf_15 : cX0_bestOf.data.toList.drop 350 = dktX0_bestOf_15 := dk_seg dksX0_bestOf_14 22 rfl rfl
theorem dksX0_bestOf_16 : cX0_bestOf.data.toList.drop 374 = dktX0_bestOf_16 := dk_seg dksX0_bestOf_15 24 rfl rfl
theorem dksX0_bestOf_17 : cX0_bestOf.data.toList.drop 396 = dktX0_bestOf_17 := dk_seg dksX0_bestOf_16 22 rfl rfl
theorem dX0_bestOf_0 : decode cX0_bestOf 0 = .ok (.aload_n 0, 1) := dk_42 (dk_at dksX0_bestOf_0 0 rfl rfl)
theorem dX0_bestOf_1 : decode cX0_bestOf 1 = .ok (.dup, 1) := dk_89 (dk_at dksX0_bestOf_0 1 rfl rfl)
theorem dX0_bestOf_2 : decode cX0_bestOf 2 = .ok (.getfield 214, 3) := dk_180 0 214 (dk_at dksX0_bestOf_0 2 rfl rfl)
theorem dX0_bestOf_5 : decode cX0_bestOf 5 = .ok (.iconst 1, 1) := dk_4 (dk_at dksX0_bestOf_0 5 rfl rfl)
theorem dX0_bestOf_6 : decode cX0_bestOf 6 = .ok (.iadd, 1) := dk_96 (dk_at dksX0_bestOf_0 6 rfl rfl)
theorem dX0_bestOf_7 : decode cX0_bestOf 7 = .ok (.putfield 214, 3) := dk_181 0 214 (dk_at dksX0_bestOf_0 7 rfl rfl)
theorem dX0_bestOf_10 : decode cX0_bestOf 10 = .ok (.aload_n 0, 1) := dk_42 (dk_at dksX0_bestOf_0 10 rfl rfl)
theorem dX0_bestOf_11 : decode cX0_bestOf 11 = .ok (.getfield 214, 3) := dk_180 0 214 (dk_at dksX0_bestOf_0 11 rfl rfl)
theorem dX0_bestOf_14 : decode cX0_bestOf 14 = .ok (.sipush 20000, 3) := dk_17 78 32 (dk_at dksX0_bestOf_0 14 rfl rfl)
theorem dX0_bestOf_17 : decode cX0_bestOf 17 = .ok (.if_icmp .le 5, 3) := dk_164 0 5 (dk_at dksX0_bestOf_0 17 rfl rfl)
theorem dX0_bestOf_20 : decode cX0_bestOf 20 = .ok (.iconst (-1), 1) := dk_2 (dk_at dksX0_bestOf_0 20 rfl rfl)
theorem dX0_bestOf_21 : decode cX0_bestOf 21 = .ok (.ireturn, 1) := dk_172 (dk_at dksX0_bestOf_0 21 rfl rfl)
theorem dX0_bestOf_22 : decode cX0_bestOf 22 = .ok (.iconst 0, 1) := dk_3 (dk_at dksX0_bestOf_0 22 rfl rfl)
theorem dX0_bestOf_23 : decode cX0_bestOf 23 = .ok (.istore 4, 2) := dk_54 4 (dk_at dksX0_bestOf_1 0 rfl rfl)
theorem dX0_bestOf_25 : decode cX0_bestOf 25 = .ok (.bipush 123, 2) := dk_16 123 (dk_at dksX0_bestOf_1 2 rfl rfl)
theorem dX0_bestOf_27 : decode cX0_bestOf 27 = .ok (.iload_n 3, 1) := dk_29 (dk_at dksX0_bestOf_1 4 rfl rfl)
theorem dX0_bestOf_28 : decode cX0_bestOf 28 = .ok (.imul, 1) := dk_104 (dk_at dksX0_bestOf_1 5 rfl rfl)
theorem dX0_bestOf_29 : decode cX0_bestOf 29 = .ok (.istore 5, 2) := dk_54 5 (dk_at dksX0_bestOf_1 6 rfl rfl)
theorem dX0_bestOf_31 : decode cX0_bestOf 31 = .ok (.aload_n 0, 1) := dk_42 (dk_at dksX0_bestOf_1 8 rfl rfl)
theorem dX0_bestOf_32 : decode cX0_bestOf 32 = .ok (.getfield 12, 3) := dk_180 0 12 (dk_at dksX0_bestOf_1 9 rfl rfl)
theorem dX0_bestOf_35 : decode cX0_bestOf 35 = .ok (.aload_n 0, 1) := dk_42 (dk_at dksX0_bestOf_1 12 rfl rfl)
theorem dX0_bestOf_36 : decode cX0_bestOf 36 = .ok (.getfield 34, 3) := dk_180 0 34 (dk_at dksX0_bestOf_1 13 rfl rfl)
theorem dX0_bestOf_39 : decode cX0_bestOf 39 = .ok (.iload 5, 2) := dk_21 5 (dk_at dksX0_bestOf_1 16 rfl rfl)
theorem dX0_bestOf_41 : decode cX0_bestOf 41 = .ok (.invokevirtual 217, 3) := dk_182 0 217 (dk_at dksX0_bestOf_1 18 rfl rfl)
theorem dX0_bestOf_44 : decode cX0_bestOf 44 = .ok (.iconst 0, 1) := dk_3 (dk_at dksX0_bestOf_1 21 rfl rfl)
theorem dX0_bestOf_45 : decode cX0_bestOf 45 = .ok (.istore 6, 2) := dk_54 6 (dk_at dksX0_bestOf_1 22 rfl rfl)
theorem dX0_bestOf_47 : decode cX0_bestOf 47 = .ok (.iload 6, 2) := dk_21 6 (dk_at dksX0_bestOf_2 0 rfl rfl)
theorem dX0_bestOf_49 : decode cX0_bestOf 49 = .ok (.aload_n 0, 1) := dk_42 (dk_at dksX0_bestOf_2 2 rfl rfl)
theorem dX0_bestOf_50 : decode cX0_bestOf 50 = .ok (.getfield 12, 3) := dk_180 0 12 (dk_at dksX0_bestOf_2 3 rfl rfl)
theorem dX0_bestOf_53 : decode cX0_bestOf 53 = .ok (.getfield 87, 3) := dk_180 0 87 (dk_at dksX0_bestOf_2 6 rfl rfl)
theorem dX0_bestOf_56 : decode cX0_bestOf 56 = .ok (.invokevirtual 68, 3) := dk_182 0 68 (dk_at dksX0_bestOf_2 9 rfl rfl)
theorem dX0_bestOf_59 : decode cX0_bestOf 59 = .ok (.if_icmp .ge 256, 3) := dk_162 1 0 (dk_at dksX0_bestOf_2 12 rfl rfl)
theorem dX0_bestOf_62 : decode cX0_bestOf 62 = .ok (.iconst 0, 1) := dk_3 (dk_at dksX0_bestOf_2 15 rfl rfl)
theorem dX0_bestOf_63 : decode cX0_bestOf 63 = .ok (.istore 7, 2) := dk_54 7 (dk_at dksX0_bestOf_2 16 rfl rfl)
theorem dX0_bestOf_65 : decode cX0_bestOf 65 = .ok (.iload 7, 2) := dk_21 7 (dk_at dksX0_bestOf_2 18 rfl rfl)
theorem dX0_bestOf_67 : decode cX0_bestOf 67 = .ok (.iconst 5, 1) := dk_8 (dk_at dksX0_bestOf_2 20 rfl rfl)
theorem dX0_bestOf_68 : decode cX0_bestOf 68 = .ok (.if_icmp .ge 241, 3) := dk_162 0 241 (dk_at dksX0_bestOf_2 21 rfl rfl)
theorem dX0_bestOf_71 : decode cX0_bestOf 71 = .ok (.aload_n 0, 1) := dk_42 (dk_at dksX0_bestOf_3 0 rfl rfl)
theorem dX0_bestOf_72 : decode cX0_bestOf 72 = .ok (.getfield 12, 3) := dk_180 0 12 (dk_at dksX0_bestOf_3 1 rfl rfl)
theorem dX0_bestOf_75 : decode cX0_bestOf 75 = .ok (.getfield 87, 3) := dk_180 0 87 (dk_at dksX0_bestOf_3 4 rfl rfl)
theorem dX0_bestOf_78 : decode cX0_bestOf 78 = .ok (.iload 6, 2) := dk_21 6 (dk_at dksX0_bestOf_3 7 rfl rfl)
theorem dX0_bestOf_80 : decode cX0_bestOf 80 = .ok (.invokevirtual 104, 3) := dk_182 0 104 (dk_at dksX0_bestOf_3 9 rfl rfl)
theorem dX0_bestOf_83 : decode cX0_bestOf 83 = .ok (.checkcast 145, 3) := dk_192 0 145 (dk_at dksX0_bestOf_3 12 rfl rfl)
theorem dX0_bestOf_86 : decode cX0_bestOf 86 = .ok (.astore 8, 2) := dk_58 8 (dk_at dksX0_bestOf_3 15 rfl rfl)
theorem dX0_bestOf_88 : decode cX0_bestOf 88 = .ok (.getstatic 221, 3) := dk_178 0 221 (dk_at dksX0_bestOf_3 17 rfl rfl)
theorem dX0_bestOf_91 : decode cX0_bestOf 91 = .ok (.iload 7, 2) := dk_21 7 (dk_at dksX0_bestOf_3 20 rfl rfl)
theorem dX0_bestOf_93 : decode cX0_bestOf 93 = .ok (.aaload, 1) := dk_50 (dk_at dksX0_bestOf_3 22 rfl rfl)
theorem dX0_bestOf_94 : decode cX0_bestOf 94 = .ok (.invokevirtual 225, 3) := dk_182 0 225 (dk_at dksX0_bestOf_4 0 rfl rfl)
theorem dX0_bestOf_97 : decode cX0_bestOf 97 = .ok (.istore 9, 2) := dk_54 9 (dk_at dksX0_bestOf_4 3 rfl rfl)
theorem dX0_bestOf_99 : decode cX0_bestOf 99 = .ok (.iload 9, 2) := dk_21 9 (dk_at dksX0_bestOf_4 5 rfl rfl)
theorem dX0_bestOf_101 : decode cX0_bestOf 101 = .ok (.iload_n 2, 1) := dk_28 (dk_at dksX0_bestOf_4 7 rfl rfl)
theorem dX0_bestOf_102 : decode cX0_bestOf 102 = .ok (.if_icmp .gt 201, 3) := dk_163 0 201 (dk_at dksX0_bestOf_4 8 rfl rfl)
theorem dX0_bestOf_105 : decode cX0_bestOf 105 = .ok (.aload_n 0, 1) := dk_42 (dk_at dksX0_bestOf_4 11 rfl rfl)
theorem dX0_bestOf_106 : decode cX0_bestOf 106 = .ok (.getfield 12, 3) := dk_180 0 12 (dk_at dksX0_bestOf_4 12 rfl rfl)
theorem dX0_bestOf_109 : decode cX0_bestOf 109 = .ok (.aload_n 1, 1) := dk_43 (dk_at dksX0_bestOf_4 15 rfl rfl)
theorem dX0_bestOf_110 : decode cX0_bestOf 110 = .ok (.aload 8, 2) := dk_25 8 (dk_at dksX0_bestOf_4 16 rfl rfl)
theorem dX0_bestOf_112 : decode cX0_bestOf 112 = .ok (.iload 7, 2) := dk_21 7 (dk_at dksX0_bestOf_4 18 rfl rfl)
theorem dX0_bestOf_114 : decode cX0_bestOf 114 = .ok (.invokevirtual 173, 3) := dk_182 0 173 (dk_at dksX0_bestOf_4 20 rfl rfl)
theorem dX0_bestOf_117 : decode cX0_bestOf 117 = .ok (.ifCond .ne 6, 3) := dk_154 0 6 (dk_at dksX0_bestOf_5 0 rfl rfl)
theorem dX0_bestOf_120 : decode cX0_bestOf 120 = .ok (.goto 183, 3) := dk_167 0 183 (dk_at dksX0_bestOf_5 3 rfl rfl)
theorem dX0_bestOf_123 : decode cX0_bestOf 123 = .ok (.aload_n 0, 1) := dk_42 (dk_at dksX0_bestOf_5 6 rfl rfl)
theorem dX0_bestOf_124 : decode cX0_bestOf 124 = .ok (.getfield 12, 3) := dk_180 0 12 (dk_at dksX0_bestOf_5 7 rfl rfl)
theorem dX0_bestOf_127 : decode cX0_bestOf 127 = .ok (.aload_n 1, 1) := dk_43 (dk_at dksX0_bestOf_5 10 rfl rfl)
theorem dX0_bestOf_128 : decode cX0_bestOf 128 = .ok (.aload 8, 2) := dk_25 8 (dk_at dksX0_bestOf_5 11 rfl rfl)
theorem dX0_bestOf_130 : decode cX0_bestOf 130 = .ok (.iload 7, 2) := dk_21 7 (dk_at dksX0_bestOf_5 13 rfl rfl)
theorem dX0_bestOf_132 : decode cX0_bestOf 132 = .ok (.invokevirtual 180, 3) := dk_182 0 180 (dk_at dksX0_bestOf_5 15 rfl rfl)
theorem dX0_bestOf_135 : decode cX0_bestOf 135 = .ok (.istore 10, 2) := dk_54 10 (dk_at dksX0_bestOf_5 18 rfl rfl)
theorem dX0_bestOf_137 : decode cX0_bestOf 137 = .ok (.aload_n 0, 1) := dk_42 (dk_at dksX0_bestOf_5 20 rfl rfl)
theorem dX0_bestOf_138 : decode cX0_bestOf 138 = .ok (.getfield 12, 3) := dk_180 0 12 (dk_at dksX0_bestOf_5 21 rfl rfl)
theorem dX0_bestOf_141 : decode cX0_bestOf 141 = .ok (.aload_n 1, 1) := dk_43 (dk_at dksX0_bestOf_6 0 rfl rfl)
theorem dX0_bestOf_142 : decode cX0_bestOf 142 = .ok (.iload 7, 2) := dk_21 7 (dk_at dksX0_bestOf_6 1 rfl rfl)
theorem dX0_bestOf_144 : decode cX0_bestOf 144 = .ok (.invokevirtual 229, 3) := dk_182 0 229 (dk_at dksX0_bestOf_6 3 rfl rfl)
theorem dX0_bestOf_147 : decode cX0_bestOf 147 = .ok (.aload 8, 2) := dk_25 8 (dk_at dksX0_bestOf_6 6 rfl rfl)
theorem dX0_bestOf_149 : decode cX0_bestOf 149 = .ok (.iconst 0, 1) := dk_3 (dk_at dksX0_bestOf_6 8 rfl rfl)
theorem dX0_bestOf_150 : decode cX0_bestOf 150 = .ok (.putfield 153, 3) := dk_181 0 153 (dk_at dksX0_bestOf_6 9 rfl rfl)
theorem dX0_bestOf_153 : decode cX0_bestOf 153 = .ok (.aload_n 0, 1) := dk_42 (dk_at dksX0_bestOf_6 12 rfl rfl)
theorem dX0_bestOf_154 : decode cX0_bestOf 154 = .ok (.aload_n 1, 1) := dk_43 (dk_at dksX0_bestOf_6 13 rfl rfl)
theorem dX0_bestOf_155 : decode cX0_bestOf 155 = .ok (.iload_n 2, 1) := dk_28 (dk_at dksX0_bestOf_6 14 rfl rfl)
theorem dX0_bestOf_156 : decode cX0_bestOf 156 = .ok (.iload 9, 2) := dk_21 9 (dk_at dksX0_bestOf_6 15 rfl rfl)
theorem dX0_bestOf_158 : decode cX0_bestOf 158 = .ok (.isub, 1) := dk_100 (dk_at dksX0_bestOf_6 17 rfl rfl)
theorem dX0_bestOf_159 : decode cX0_bestOf 159 = .ok (.iload_n 3, 1) := dk_29 (dk_at dksX0_bestOf_6 18 rfl rfl)
theorem dX0_bestOf_160 : decode cX0_bestOf 160 = .ok (.iconst 1, 1) := dk_4 (dk_at dksX0_bestOf_6 19 rfl rfl)
theorem dX0_bestOf_161 : decode cX0_bestOf 161 = .ok (.iadd, 1) := dk_96 (dk_at dksX0_bestOf_6 20 rfl rfl)
theorem dX0_bestOf_162 : decode cX0_bestOf 162 = .ok (.invokevirtual 233, 3) := dk_182 0 233 (dk_at dksX0_bestOf_6 21 rfl rfl)
theorem dX0_bestOf_165 : decode cX0_bestOf 165 = .ok (.istore 11, 2) := dk_54 11 (dk_at dksX0_bestOf_7 0 rfl rfl)
theorem dX0_bestOf_167 : decode cX0_bestOf 167 = .ok (.aload_n 0, 1) := dk_42 (dk_at dksX0_bestOf_7 2 rfl rfl)
theorem dX0_bestOf_168 : decode cX0_bestOf 168 = .ok (.getfield 12, 3) := dk_180 0 12 (dk_at dksX0_bestOf_7 3 rfl rfl)
theorem dX0_bestOf_171 : decode cX0_bestOf 171 = .ok (.aload_n 0, 1) := dk_42 (dk_at dksX0_bestOf_7 6 rfl rfl)
theorem dX0_bestOf_172 : decode cX0_bestOf 172 = .ok (.getfield 34, 3) := dk_180 0 34 (dk_at dksX0_bestOf_7 7 rfl rfl)
theorem dX0_bestOf_175 : decode cX0_bestOf 175 = .ok (.iload 5, 2) := dk_21 5 (dk_at dksX0_bestOf_7 10 rfl rfl)
theorem dX0_bestOf_177 : decode cX0_bestOf 177 = .ok (.invokevirtual 237, 3) := dk_182 0 237 (dk_at dksX0_bestOf_7 12 rfl rfl)
theorem dX0_bestOf_180 : decode cX0_bestOf 180 = .ok (.aload_n 0, 1) := dk_42 (dk_at dksX0_bestOf_7 15 rfl rfl)
theorem dX0_bestOf_181 : decode cX0_bestOf 181 = .ok (.getfield 12, 3) := dk_180 0 12 (dk_at dksX0_bestOf_7 16 rfl rfl)
theorem dX0_bestOf_184 : decode cX0_bestOf 184 = .ok (.aload_n 1, 1) := dk_43 (dk_at dksX0_bestOf_7 19 rfl rfl)
theorem dX0_bestOf_185 : decode cX0_bestOf 185 = .ok (.iload 7, 2) := dk_21 7 (dk_at dksX0_bestOf_7 20 rfl rfl)
theorem dX0_bestOf_187 : decode cX0_bestOf 187 = .ok (.invokevirtual 229, 3) := dk_182 0 229 (dk_at dksX0_bestOf_8 0 rfl rfl)
theorem dX0_bestOf_190 : decode cX0_bestOf 190 = .ok (.getstatic 221, 3) := dk_178 0 221 (dk_at dksX0_bestOf_8 3 rfl rfl)
theorem dX0_bestOf_193 : decode cX0_bestOf 193 = .ok (.iload 7, 2) := dk_21 7 (dk_at dksX0_bestOf_8 6 rfl rfl)
theorem dX0_bestOf_195 : decode cX0_bestOf 195 = .ok (.aaload, 1) := dk_50 (dk_at dksX0_bestOf_8 8 rfl rfl)
theorem dX0_bestOf_196 : decode cX0_bestOf 196 = .ok (.aload_n 0, 1) := dk_42 (dk_at dksX0_bestOf_8 9 rfl rfl)
theorem dX0_bestOf_197 : decode cX0_bestOf 197 = .ok (.getfield 12, 3) := dk_180 0 12 (dk_at dksX0_bestOf_8 10 rfl rfl)
theorem dX0_bestOf_200 : decode cX0_bestOf 200 = .ok (.aload_n 1, 1) := dk_43 (dk_at dksX0_bestOf_8 13 rfl rfl)
theorem dX0_bestOf_201 : decode cX0_bestOf 201 = .ok (.aload 8, 2) := dk_25 8 (dk_at dksX0_bestOf_8 14 rfl rfl)
theorem dX0_bestOf_203 : decode cX0_bestOf 203 = .ok (.invokevirtual 240, 3) := dk_182 0 240 (dk_at dksX0_bestOf_8 16 rfl rfl)
theorem dX0_bestOf_206 : decode cX0_bestOf 206 = .ok (.aload_n 0, 1) := dk_42 (dk_at dksX0_bestOf_8 19 rfl rfl)
theorem dX0_bestOf_207 : decode cX0_bestOf 207 = .ok (.aload_n 1, 1) := dk_43 (dk_at dksX0_bestOf_8 20 rfl rfl)
theorem dX0_bestOf_208 : decode cX0_bestOf 208 = .ok (.iload_n 2, 1) := dk_28 (dk_at dksX0_bestOf_8 21 rfl rfl)
theorem dX0_bestOf_209 : decode cX0_bestOf 209 = .ok (.iload 9, 2) := dk_21 9 (dk_at dksX0_bestOf_8 22 rfl rfl)
theorem dX0_bestOf_211 : decode cX0_bestOf 211 = .ok (.isub, 1) := dk_100 (dk_at dksX0_bestOf_9 0 rfl rfl)
theorem dX0_bestOf_212 : decode cX0_bestOf 212 = .ok (.iload_n 3, 1) := dk_29 (dk_at dksX0_bestOf_9 1 rfl rfl)
theorem dX0_bestOf_213 : decode cX0_bestOf 213 = .ok (.iconst 1, 1) := dk_4 (dk_at dksX0_bestOf_9 2 rfl rfl)
theorem dX0_bestOf_214 : decode cX0_bestOf 214 = .ok (.iadd, 1) := dk_96 (dk_at dksX0_bestOf_9 3 rfl rfl)
theorem dX0_bestOf_215 : decode cX0_bestOf 215 = .ok (.invokevirtual 233, 3) := dk_182 0 233 (dk_at dksX0_bestOf_9 4 rfl rfl)
theorem dX0_bestOf_218 : decode cX0_bestOf 218 = .ok (.istore 12, 2) := dk_54 12 (dk_at dksX0_bestOf_9 7 rfl rfl)
theorem dX0_bestOf_220 : decode cX0_bestOf 220 = .ok (.aload_n 0, 1) := dk_42 (dk_at dksX0_bestOf_9 9 rfl rfl)
theorem dX0_bestOf_221 : decode cX0_bestOf 221 = .ok (.getfield 12, 3) := dk_180 0 12 (dk_at dksX0_bestOf_9 10 rfl rfl)
theorem dX0_bestOf_224 : decode cX0_bestOf 224 = .ok (.aload_n 0, 1) := dk_42 (dk_at dksX0_bestOf_9 13 rfl rfl)
theorem dX0_bestOf_225 : decode cX0_bestOf 225 = .ok (.getfield 34, 3) := dk_180 0 34 (dk_at dksX0_bestOf_9 14 rfl rfl)
theorem dX0_bestOf_228 : decode cX0_bestOf 228 = .ok (.iload 5, 2) := dk_21 5 (dk_at dksX0_bestOf_9 17 rfl rfl)
theorem dX0_bestOf_230 : decode cX0_bestOf 230 = .ok (.invokevirtual 237, 3) := dk_182 0 237 (dk_at dksX0_bestOf_9 19 rfl rfl)
theorem dX0_bestOf_233 : decode cX0_bestOf 233 = .ok (.iload 11, 2) := dk_21 11 (dk_at dksX0_bestOf_9 22 rfl rfl)
theorem dX0_bestOf_235 : decode cX0_bestOf 235 = .ok (.ifCond .lt 8, 3) := dk_155 0 8 (dk_at dksX0_bestOf_10 0 rfl rfl)
theorem dX0_bestOf_238 : decode cX0_bestOf 238 = .ok (.iload 12, 2) := dk_21 12 (dk_at dksX0_bestOf_10 3 rfl rfl)
theorem dX0_bestOf_240 : decode cX0_bestOf 240 = .ok (.ifCond .ge 5, 3) := dk_156 0 5 (dk_at dksX0_bestOf_10 5 rfl rfl)
theorem dX0_bestOf_243 : decode cX0_bestOf 243 = .ok (.iconst (-1), 1) := dk_2 (dk_at dksX0_bestOf_10 8 rfl rfl)
theorem dX0_bestOf_244 : decode cX0_bestOf 244 = .ok (.ireturn, 1) := dk_172 (dk_at dksX0_bestOf_10 9 rfl rfl)
theorem dX0_bestOf_245 : decode cX0_bestOf 245 = .ok (.iload 10, 2) := dk_21 10 (dk_at dksX0_bestOf_10 10 rfl rfl)
theorem dX0_bestOf_247 : decode cX0_bestOf 247 = .ok (.i2l, 1) := dk_133 (dk_at dksX0_bestOf_10 12 rfl rfl)
theorem dX0_bestOf_248 : decode cX0_bestOf 248 = .ok (.ldc 243, 2) := dk_18 243 (dk_at dksX0_bestOf_10 13 rfl rfl)
theorem dX0_bestOf_250 : decode cX0_bestOf 250 = .ok (.iload 11, 2) := dk_21 11 (dk_at dksX0_bestOf_10 15 rfl rfl)
theorem dX0_bestOf_252 : decode cX0_bestOf 252 = .ok (.iadd, 1) := dk_96 (dk_at dksX0_bestOf_10 17 rfl rfl)
theorem dX0_bestOf_253 : decode cX0_bestOf 253 = .ok (.i2l, 1) := dk_133 (dk_at dksX0_bestOf_10 18 rfl rfl)
theorem dX0_bestOf_254 : decode cX0_bestOf 254 = .ok (.lmul, 1) := dk_105 (dk_at dksX0_bestOf_10 19 rfl rfl)
theorem dX0_bestOf_255 : decode cX0_bestOf 255 = .ok (.bipush 100, 2) := dk_16 100 (dk_at dksX0_bestOf_10 20 rfl rfl)
theorem dX0_bestOf_257 : decode cX0_bestOf 257 = .ok (.iload 10, 2) := dk_21 10 (dk_at dksX0_bestOf_10 22 rfl rfl)
theorem dX0_bestOf_259 : decode cX0_bestOf 259 = .ok (.isub, 1) := dk_100 (dk_at dksX0_bestOf_11 0 rfl rfl)
theorem dX0_bestOf_260 : decode cX0_bestOf 260 = .ok (.i2l, 1) := dk_133 (dk_at dksX0_bestOf_11 1 rfl rfl)
theorem dX0_bestOf_261 : decode cX0_bestOf 261 = .ok (.iload 12, 2) := dk_21 12 (dk_at dksX0_bestOf_11 2 rfl rfl)
theorem dX0_bestOf_263 : decode cX0_bestOf 263 = .ok (.i2l, 1) := dk_133 (dk_at dksX0_bestOf_11 4 rfl rfl)
theorem dX0_bestOf_264 : decode cX0_bestOf 264 = .ok (.lmul, 1) := dk_105 (dk_at dksX0_bestOf_11 5 rfl rfl)
theorem dX0_bestOf_265 : decode cX0_bestOf 265 = .ok (.ladd, 1) := dk_97 (dk_at dksX0_bestOf_11 6 rfl rfl)
theorem dX0_bestOf_266 : decode cX0_bestOf 266 = .ok (.ldc2_w 244, 3) := dk_20 0 244 (dk_at dksX0_bestOf_11 7 rfl rfl)
theorem dX0_bestOf_269 : decode cX0_bestOf 269 = .ok (.ldiv, 1) := dk_109 (dk_at dksX0_bestOf_11 10 rfl rfl)
theorem dX0_bestOf_270 : decode cX0_bestOf 270 = .ok (.l2i, 1) := dk_136 (dk_at dksX0_bestOf_11 11 rfl rfl)
theorem dX0_bestOf_271 : decode cX0_bestOf 271 = .ok (.istore 13, 2) := dk_54 13 (dk_at dksX0_bestOf_11 12 rfl rfl)
theorem dX0_bestOf_273 : decode cX0_bestOf 273 = .ok (.iload 13, 2) := dk_21 13 (dk_at dksX0_bestOf_11 14 rfl rfl)
theorem dX0_bestOf_275 : decode cX0_bestOf 275 = .ok (.iload 4, 2) := dk_21 4 (dk_at dksX0_bestOf_11 16 rfl rfl)
theorem dX0_bestOf_277 : decode cX0_bestOf 277 = .ok (.if_icmp .gt 6, 3) := dk_163 0 6 (dk_at dksX0_bestOf_11 18 rfl rfl)
theorem dX0_bestOf_280 : decode cX0_bestOf 280 = .ok (.goto 23, 3) := dk_167 0 23 (dk_at dksX0_bestOf_11 21 rfl rfl)
theorem dX0_bestOf_283 : decode cX0_bestOf 283 = .ok (.iload 13, 2) := dk_21 13 (dk_at dksX0_bestOf_12 0 rfl rfl)
theorem dX0_bestOf_285 : decode cX0_bestOf 285 = .ok (.istore 4, 2) := dk_54 4 (dk_at dksX0_bestOf_12 2 rfl rfl)
theorem dX0_bestOf_287 : decode cX0_bestOf 287 = .ok (.iload_n 3, 1) := dk_29 (dk_at dksX0_bestOf_12 4 rfl rfl)
theorem dX0_bestOf_288 : decode cX0_bestOf 288 = .ok (.ifCond .ne 15, 3) := dk_154 0 15 (dk_at dksX0_bestOf_12 5 rfl rfl)
theorem dX0_bestOf_291 : decode cX0_bestOf 291 = .ok (.aload_n 0, 1) := dk_42 (dk_at dksX0_bestOf_12 8 rfl rfl)
theorem dX0_bestOf_292 : decode cX0_bestOf 292 = .ok (.bipush 10, 2) := dk_16 10 (dk_at dksX0_bestOf_12 9 rfl rfl)
theorem dX0_bestOf_294 : decode cX0_bestOf 294 = .ok (.iload 6, 2) := dk_21 6 (dk_at dksX0_bestOf_12 11 rfl rfl)
theorem dX0_bestOf_296 : decode cX0_bestOf 296 = .ok (.imul, 1) := dk_104 (dk_at dksX0_bestOf_12 13 rfl rfl)
theorem dX0_bestOf_297 : decode cX0_bestOf 297 = .ok (.iload 7, 2) := dk_21 7 (dk_at dksX0_bestOf_12 14 rfl rfl)
theorem dX0_bestOf_299 : decode cX0_bestOf 299 = .ok (.iadd, 1) := dk_96 (dk_at dksX0_bestOf_12 16 rfl rfl)
theorem dX0_bestOf_300 : decode cX0_bestOf 300 = .ok (.putfield 246, 3) := dk_181 0 246 (dk_at dksX0_bestOf_12 17 rfl rfl)
theorem dX0_bestOf_303 : decode cX0_bestOf 303 = .ok (.iinc 7 1, 3) := dk_132 7 1 (dk_at dksX0_bestOf_12 20 rfl rfl)
theorem dX0_bestOf_306 : decode cX0_bestOf 306 = .ok (.goto (-241), 3) := dk_167 255 15 (dk_at dksX0_bestOf_13 0 rfl rfl)
theorem dX0_bestOf_309 : decode cX0_bestOf 309 = .ok (.iinc 6 1, 3) := dk_132 6 1 (dk_at dksX0_bestOf_13 3 rfl rfl)
theorem dX0_bestOf_312 : decode cX0_bestOf 312 = .ok (.goto (-265), 3) := dk_167 254 247 (dk_at dksX0_bestOf_13 6 rfl rfl)
theorem dX0_bestOf_315 : decode cX0_bestOf 315 = .ok (.iload_n 2, 1) := dk_28 (dk_at dksX0_bestOf_13 9 rfl rfl)
theorem dX0_bestOf_316 : decode cX0_bestOf 316 = .ok (.iconst 2, 1) := dk_5 (dk_at dksX0_bestOf_13 10 rfl rfl)
theorem dX0_bestOf_317 : decode cX0_bestOf 317 = .ok (.if_icmp .lt 14, 3) := dk_161 0 14 (dk_at dksX0_bestOf_13 11 rfl rfl)
theorem dX0_bestOf_320 : decode cX0_bestOf 320 = .ok (.aload_n 1, 1) := dk_43 (dk_at dksX0_bestOf_13 14 rfl rfl)
theorem dX0_bestOf_321 : decode cX0_bestOf 321 = .ok (.getfield 164, 3) := dk_180 0 164 (dk_at dksX0_bestOf_13 15 rfl rfl)
theorem dX0_bestOf_324 : decode cX0_bestOf 324 = .ok (.aload_n 1, 1) := dk_43 (dk_at dksX0_bestOf_13 18 rfl rfl)
theorem dX0_bestOf_325 : decode cX0_bestOf 325 = .ok (.getfield 249, 3) := dk_180 0 249 (dk_at dksX0_bestOf_13 19 rfl rfl)
theorem dX0_bestOf_328 : decode cX0_bestOf 328 = .ok (.if_icmp .ne 6, 3) := dk_160 0 6 (dk_at dksX0_bestOf_14 0 rfl rfl)
theorem dX0_bestOf_331 : decode cX0_bestOf 331 = .ok (.iload 4, 2) := dk_21 4 (dk_at dksX0_bestOf_14 3 rfl rfl)
theorem dX0_bestOf_333 : decode cX0_bestOf 333 = .ok (.ireturn, 1) := dk_172 (dk_at dksX0_bestOf_14 5 rfl rfl)
theorem dX0_bestOf_334 : decode cX0_bestOf 334 = .ok (.aload_n 0, 1) := dk_42 (dk_at dksX0_bestOf_14 6 rfl rfl)
theorem dX0_bestOf_335 : decode cX0_bestOf 335 = .ok (.getfield 12, 3) := dk_180 0 12 (dk_at dksX0_bestOf_14 7 rfl rfl)
theorem dX0_bestOf_338 : decode cX0_bestOf 338 = .ok (.aload_n 1, 1) := dk_43 (dk_at dksX0_bestOf_14 10 rfl rfl)
theorem dX0_bestOf_339 : decode cX0_bestOf 339 = .ok (.invokevirtual 198, 3) := dk_182 0 198 (dk_at dksX0_bestOf_14 11 rfl rfl)
theorem dX0_bestOf_342 : decode cX0_bestOf 342 = .ok (.aload_n 0, 1) := dk_42 (dk_at dksX0_bestOf_14 14 rfl rfl)
theorem dX0_bestOf_343 : decode cX0_bestOf 343 = .ok (.aload_n 1, 1) := dk_43 (dk_at dksX0_bestOf_14 15 rfl rfl)
theorem dX0_bestOf_344 : decode cX0_bestOf 344 = .ok (.iload_n 2, 1) := dk_28 (dk_at dksX0_bestOf_14 16 rfl rfl)
theorem dX0_bestOf_345 : decode cX0_bestOf 345 = .ok (.iconst 2, 1) := dk_5 (dk_at dksX0_bestOf_14 17 rfl rfl)
theorem dX0_bestOf_346 : decode cX0_bestOf 346 = .ok (.isub, 1) := dk_100 (dk_at dksX0_bestOf_14 18 rfl rfl)
theorem dX0_bestOf_347 : decode cX0_bestOf 347 = .ok (.iload_n 3, 1) := dk_29 (dk_at dksX0_bestOf_14 19 rfl rfl)
theorem dX0_bestOf_348 : decode cX0_bestOf 348 = .ok (.iconst 1, 1) := dk_4 (dk_at dksX0_bestOf_14 20 rfl rfl)
theorem dX0_bestOf_349 : decode cX0_bestOf 349 = .ok (.iadd, 1) := dk_96 (dk_at dksX0_bestOf_14 21 rfl rfl)
theorem dX0_bestOf_350 : decode cX0_bestOf 350 = .ok (.invokevirtual 233, 3) := dk_182 0 233 (dk_at dksX0_bestOf_15 0 rfl rfl)
theorem dX0_bestOf_353 : decode cX0_bestOf 353 = .ok (.istore 6, 2) := dk_54 6 (dk_at dksX0_bestOf_15 3 rfl rfl)
theorem dX0_bestOf_355 : decode cX0_bestOf 355 = .ok (.aload_n 0, 1) := dk_42 (dk_at dksX0_bestOf_15 5 rfl rfl)
theorem dX0_bestOf_356 : decode cX0_bestOf 356 = .ok (.getfield 12, 3) := dk_180 0 12 (dk_at dksX0_bestOf_15 6 rfl rfl)
theorem dX0_bestOf_359 : decode cX0_bestOf 359 = .ok (.aload_n 0, 1) := dk_42 (dk_at dksX0_bestOf_15 9 rfl rfl)
theorem dX0_bestOf_360 : decode cX0_bestOf 360 = .ok (.getfield 34, 3) := dk_180 0 34 (dk_at dksX0_bestOf_15 10 rfl rfl)
theorem dX0_bestOf_363 : decode cX0_bestOf 363 = .ok (.iload 5, 2) := dk_21 5 (dk_at dksX0_bestOf_15 13 rfl rfl)
theorem dX0_bestOf_365 : decode cX0_bestOf 365 = .ok (.invokevirtual 237, 3) := dk_182 0 237 (dk_at dksX0_bestOf_15 15 rfl rfl)
theorem dX0_bestOf_368 : decode cX0_bestOf 368 = .ok (.iload 6, 2) := dk_21 6 (dk_at dksX0_bestOf_15 18 rfl rfl)
theorem dX0_bestOf_370 : decode cX0_bestOf 370 = .ok (.ifCond .ge 5, 3) := dk_156 0 5 (dk_at dksX0_bestOf_15 20 rfl rfl)
theorem dX0_bestOf_373 : decode cX0_bestOf 373 = .ok (.iconst (-1), 1) := dk_2 (dk_at dksX0_bestOf_15 23 rfl rfl)
theorem dX0_bestOf_374 : decode cX0_bestOf 374 = .ok (.ireturn, 1) := dk_172 (dk_at dksX0_bestOf_16 0 rfl rfl)
theorem dX0_bestOf_375 : decode cX0_bestOf 375 = .ok (.iload 6, 2) := dk_21 6 (dk_at dksX0_bestOf_16 1 rfl rfl)
theorem dX0_bestOf_377 : decode cX0_bestOf 377 = .ok (.iload 4, 2) := dk_21 4 (dk_at dksX0_bestOf_16 3 rfl rfl)
theorem dX0_bestOf_379 : decode cX0_bestOf 379 = .ok (.if_icmp .le 13, 3) := dk_164 0 13 (dk_at dksX0_bestOf_16 5 rfl rfl)
theorem dX0_bestOf_382 : decode cX0_bestOf 382 = .ok (.iload_n 3, 1) := dk_29 (dk_at dksX0_bestOf_16 8 rfl rfl)
theorem dX0_bestOf_383 : decode cX0_bestOf 383 = .ok (.ifCond .ne 9, 3) := dk_154 0 9 (dk_at dksX0_bestOf_16 9 rfl rfl)
theorem dX0_bestOf_386 : decode cX0_bestOf 386 = .ok (.aload_n 0, 1) := dk_42 (dk_at dksX0_bestOf_16 12 rfl rfl)
theorem dX0_bestOf_387 : decode cX0_bestOf 387 = .ok (.bipush (-2), 2) := dk_16 254 (dk_at dksX0_bestOf_16 13 rfl rfl)
theorem dX0_bestOf_389 : decode cX0_bestOf 389 = .ok (.putfield 246, 3) := dk_181 0 246 (dk_at dksX0_bestOf_16 15 rfl rfl)
theorem dX0_bestOf_392 : decode cX0_bestOf 392 = .ok (.iload 4, 2) := dk_21 4 (dk_at dksX0_bestOf_16 18 rfl rfl)
theorem dX0_bestOf_394 : decode cX0_bestOf 394 = .ok (.iload 6, 2) := dk_21 6 (dk_at dksX0_bestOf_16 20 rfl rfl)
theorem dX0_bestOf_396 : decode cX0_bestOf 396 = .ok (.invokestatic 252, 3) := dk_184 0 252 (dk_at dksX0_bestOf_17 0 rfl rfl)
theorem dX0_bestOf_399 : decode cX0_bestOf 399 = .ok (.ireturn, 1) := dk_172 (dk_at dksX0_bestOf_17 3 rfl rfl)
abbrev cX0_match : ByteArray := prog_1_method_30_code
def yX0_match : MethodName := ⟨RX0, "match", "(II)I"⟩
def dkwX0_match_1 : List UInt8 := [27, 28, 182, 1, 8, 167, 0, 6, 19, 1, 11, 172]
abbrev dktX0_match_1 : List UInt8 := dkwX0_match_1 ++ []
def dkwX0_match_0 : List UInt8 := [42, 27, 182, 1, 2, 153, 0, 27, 42, 28, 182, 1, 2, 153, 0, 19, 42, 182, 1, 5, 153, 0, 12, 42]
abbrev dktX0_match_0 : List UInt8 := dkwX0_match_0 ++ dktX0_match_1
theorem dksX0_match_0 : cX0_match.data.toList.drop 0 = dktX0_match_0 := by decide +kernel
theorem dksX0_match_1 : cX0_match.data.toList.drop 24 = dktX0_match_1 := dk_seg dksX0_match_0 24 rfl rfl
theorem dX0_match_0 : decode cX0_match 0 = .ok (.aload_n 0, 1) := dk_42 (dk_at dksX0_match_0 0 rfl rfl)
theorem dX0_match_1 : decode cX0_match 1 = .ok (.iload_n 1, 1) := dk_27 (dk_at dksX0_match_0 1 rfl rfl)
theorem dX0_match_2 : decode cX0_match 2 = .ok (.invokevirtual 258, 3) := dk_182 1 2 (dk_at dksX0_match_0 2 rfl rfl)
theorem dX0_match_5 : decode cX0_match 5 = .ok (.ifCond .eq 27, 3) := dk_153 0 27 (dk_at dksX0_match_0 5 rfl rfl)
theorem dX0_match_8 : decode cX0_match 8 = .ok (.aload_n 0, 1) := dk_42 (dk_at dksX0_match_0 8 rfl rfl)
theorem dX0_match_9 : decode cX0_match 9 = .ok (.iload_n 2, 1) := dk_28 (dk_at dksX0_match_0 9 rfl rfl)
theorem dX0_match_10 : decode cX0_match 10 = .ok (.invokevirtual 258, 3) := dk_182 1 2 (dk_at dksX0_match_0 10 rfl rfl)
theorem dX0_match_13 : decode cX0_match 13 = .ok (.ifCond .eq 19, 3) := dk_153 0 19 (dk_at dksX0_match_0 13 rfl rfl)
theorem dX0_match_16 : decode cX0_match 16 = .ok (.aload_n 0, 1) := dk_42 (dk_at dksX0_match_0 16 rfl rfl)
theorem dX0_match_17 : decode cX0_match 17 = .ok (.invokevirtual 261, 3) := dk_182 1 5 (dk_at dksX0_match_0 17 rfl rfl)
theorem dX0_match_20 : decode cX0_match 20 = .ok (.ifCond .eq 12, 3) := dk_153 0 12 (dk_at dksX0_match_0 20 rfl rfl)
theorem dX0_match_23 : decode cX0_match 23 = .ok (.aload_n 0, 1) := dk_42 (dk_at dksX0_match_0 23 rfl rfl)
theorem dX0_match_24 : decode cX0_match 24 = .ok (.iload_n 1, 1) := dk_27 (dk_at dksX0_match_1 0 rfl rfl)
theorem dX0_match_25 : decode cX0_match 25 = .ok (.iload_n 2, 1) := dk_28 (dk_at dksX0_match_1 1 rfl rfl)
theorem dX0_match_26 : decode cX0_match 26 = .ok (.invokevirtual 264, 3) := dk_182 1 8 (dk_at dksX0_match_1 2 rfl rfl)
theorem dX0_match_29 : decode cX0_match 29 = .ok (.goto 6, 3) := dk_167 0 6 (dk_at dksX0_match_1 5 rfl rfl)
theorem dX0_match_32 : decode cX0_match 32 = .ok (.ldc_w 267, 3) := dk_19 1 11 (dk_at dksX0_match_1 8 rfl rfl)
theorem dX0_match_35 : decode cX0_match 35 = .ok (.ireturn, 1) := dk_172 (dk_at dksX0_match_1 11 rfl rfl)
abbrev cX0_isRule : ByteArray := prog_1_method_8_code
def yX0_isRule : MethodName := ⟨RX0, "isRule", "(I)Z"⟩
def dkwX0_isRule_0 : List UInt8 := [27, 3, 42, 180, 0, 12, 180, 0, 97, 182, 0, 68, 4, 100, 184, 0, 90, 172]
abbrev dktX0_isRule_0 : List UInt8 := dkwX0_isRule_0 ++ []
theorem dksX0_isRule_0 : cX0_isRule.data.toList.drop 0 = dktX0_isRule_0 := by decide +kernel
theorem dX0_isRule_0 : decode cX0_isRule 0 = .ok (.iload_n 1, 1) := dk_27 (dk_at dksX0_isRule_0 0 rfl rfl)
theorem dX0_isRule_1 : decode cX0_isRule 1 = .ok (.iconst 0, 1) := dk_3 (dk_at dksX0_isRule_0 1 rfl rfl)
theorem dX0_isRule_2 : decode cX0_isRule 2 = .ok (.aload_n 0, 1) := dk_42 (dk_at dksX0_isRule_0 2 rfl rfl)
theorem dX0_isRule_3 : decode cX0_isRule 3 = .ok (.getfield 12, 3) := dk_180 0 12 (dk_at dksX0_isRule_0 3 rfl rfl)
theorem dX0_isRule_6 : decode cX0_isRule 6 = .ok (.getfield 97, 3) := dk_180 0 97 (dk_at dksX0_isRule_0 6 rfl rfl)
theorem dX0_isRule_9 : decode cX0_isRule 9 = .ok (.invokevirtual 68, 3) := dk_182 0 68 (dk_at dksX0_isRule_0 9 rfl rfl)
theorem dX0_isRule_12 : decode cX0_isRule 12 = .ok (.iconst 1, 1) := dk_4 (dk_at dksX0_isRule_0 12 rfl rfl)
theorem dX0_isRule_13 : decode cX0_isRule 13 = .ok (.isub, 1) := dk_100 (dk_at dksX0_isRule_0 13 rfl rfl)
theorem dX0_isRule_14 : decode cX0_isRule 14 = .ok (.invokestatic 90, 3) := dk_184 0 90 (dk_at dksX0_isRule_0 14 rfl rfl)
theorem dX0_isRule_17 : decode cX0_isRule 17 = .ok (.ireturn, 1) := dk_172 (dk_at dksX0_isRule_0 17 rfl rfl)
abbrev cX0_canMatch : ByteArray := prog_1_method_29_code
def yX0_canMatch : MethodName := ⟨RX0, "canMatch", "()Z"⟩
def dkwX0_canMatch_0 : List UInt8 := [42, 180, 0, 12, 180, 0, 94, 182, 0, 68, 4, 164, 0, 7, 4, 167, 0, 4, 3, 172]
abbrev dktX0_canMatch_0 : List UInt8 := dkwX0_canMatch_0 ++ []
theorem dksX0_canMatch_0 : cX0_canMatch.data.toList.drop 0 = dktX0_canMatch_0 := by decide +kernel
theorem dX0_canMatch_0 : decode cX0_canMatch 0 = .ok (.aload_n 0, 1) := dk_42 (dk_at dksX0_canMatch_0 0 rfl rfl)
theorem dX0_canMatch_1 : decode cX0_canMatch 1 = .ok (.getfield 12, 3) := dk_180 0 12 (dk_at dksX0_canMatch_0 1 rfl rfl)
theorem dX0_canMatch_4 : decode cX0_canMatch 4 = .ok (.getfield 94, 3) := dk_180 0 94 (dk_at dksX0_canMatch_0 4 rfl rfl)
theorem dX0_canMatch_7 : decode cX0_canMatch 7 = .ok (.invokevirtual 68, 3) := dk_182 0 68 (dk_at dksX0_canMatch_0 7 rfl rfl)
theorem dX0_canMatch_10 : decode cX0_canMatch 10 = .ok (.iconst 1, 1) := dk_4 (dk_at dksX0_canMatch_0 10 rfl rfl)
theorem dX0_canMatch_11 : decode cX0_canMatch 11 = .ok (.if_icmp .le 7, 3) := dk_164 0 7 (dk_at dksX0_canMatch_0 11 rfl rfl)
theorem dX0_canMatch_14 : decode cX0_canMatch 14 = .ok (.iconst 1, 1) := dk_4 (dk_at dksX0_canMatch_0 14 rfl rfl)
theorem dX0_canMatch_15 : decode cX0_canMatch 15 = .ok (.goto 4, 3) := dk_167 0 4 (dk_at dksX0_canMatch_0 15 rfl rfl)
theorem dX0_canMatch_18 : decode cX0_canMatch 18 = .ok (.iconst 0, 1) := dk_3 (dk_at dksX0_canMatch_0 18 rfl rfl)
theorem dX0_canMatch_19 : decode cX0_canMatch 19 = .ok (.ireturn, 1) := dk_172 (dk_at dksX0_canMatch_0 19 rfl rfl)
abbrev cX0_matchOf : ByteArray := prog_1_method_28_code
def yX0_matchOf : MethodName := ⟨RX0, "matchOf", "(II)I"⟩
def dkwX0_matchOf_4 : List UInt8 := [167, 255, 180, 42, 180, 0, 12, 42, 180, 0, 34, 3, 182, 0, 237, 29, 172]
abbrev dktX0_matchOf_4 : List UInt8 := dkwX0_matchOf_4 ++ []
def dkwX0_matchOf_3 : List UInt8 := [182, 0, 104, 192, 0, 112, 182, 0, 206, 153, 0, 7, 4, 167, 0, 4, 3, 100, 62, 132, 4, 1]
abbrev dktX0_matchOf_3 : List UInt8 := dkwX0_matchOf_3 ++ dktX0_matchOf_4
def dkwX0_matchOf_2 : List UInt8 := [153, 0, 7, 4, 167, 0, 4, 3, 96, 62, 29, 42, 180, 0, 12, 4, 42, 180, 0, 12, 180, 0, 97, 28]
abbrev dktX0_matchOf_2 : List UInt8 := dkwX0_matchOf_2 ++ dktX0_matchOf_3
def dkwX0_matchOf_1 : List UInt8 := [29, 42, 180, 0, 12, 3, 42, 180, 0, 12, 180, 0, 97, 27, 182, 0, 104, 192, 0, 112, 182, 0, 206]
abbrev dktX0_matchOf_1 : List UInt8 := dkwX0_matchOf_1 ++ dktX0_matchOf_2
def dkwX0_matchOf_0 : List UInt8 := [42, 180, 0, 12, 42, 180, 0, 34, 3, 182, 0, 217, 3, 62, 3, 54, 4, 21, 4, 16, 10, 162, 0, 75]
abbrev dktX0_matchOf_0 : List UInt8 := dkwX0_matchOf_0 ++ dktX0_matchOf_1
theorem dksX0_matchOf_0 : cX0_matchOf.data.toList.drop 0 = dktX0_matchOf_0 := by decide +kernel
theorem dksX0_matchOf_1 : cX0_matchOf.data.toList.drop 24 = dktX0_matchOf_1 := dk_seg dksX0_matchOf_0 24 rfl rfl
theorem dksX0_matchOf_2 : cX0_matchOf.data.toList.drop 47 = dktX0_matchOf_2 := dk_seg dksX0_matchOf_1 23 rfl rfl
theorem dksX0_matchOf_3 : cX0_matchOf.data.toList.drop 71 = dktX0_matchOf_3 := dk_seg dksX0_matchOf_2 24 rfl rfl
theorem dksX0_matchOf_4 : cX0_matchOf.data.toList.drop 93 = dktX0_matchOf_4 := dk_seg dksX0_matchOf_3 22 rfl rfl
theorem dX0_matchOf_0 : decode cX0_matchOf 0 = .ok (.aload_n 0, 1) := dk_42 (dk_at dksX0_matchOf_0 0 rfl rfl)
theorem dX0_matchOf_1 : decode cX0_matchOf 1 = .ok (.getfield 12, 3) := dk_180 0 12 (dk_at dksX0_matchOf_0 1 rfl rfl)
theorem dX0_matchOf_4 : decode cX0_matchOf 4 = .ok (.aload_n 0, 1) := dk_42 (dk_at dksX0_matchOf_0 4 rfl rfl)
theorem dX0_matchOf_5 : decode cX0_matchOf 5 = .ok (.getfield 34, 3) := dk_180 0 34 (dk_at dksX0_matchOf_0 5 rfl rfl)
theorem dX0_matchOf_8 : decode cX0_matchOf 8 = .ok (.iconst 0, 1) := dk_3 (dk_at dksX0_matchOf_0 8 rfl rfl)
theorem dX0_matchOf_9 : decode cX0_matchOf 9 = .ok (.invokevirtual 217, 3) := dk_182 0 217 (dk_at dksX0_matchOf_0 9 rfl rfl)
theorem dX0_matchOf_12 : decode cX0_matchOf 12 = .ok (.iconst 0, 1) := dk_3 (dk_at dksX0_matchOf_0 12 rfl rfl)
theorem dX0_matchOf_13 : decode cX0_matchOf 13 = .ok (.istore_n 3, 1) := dk_62 (dk_at dksX0_matchOf_0 13 rfl rfl)
theorem dX0_matchOf_14 : decode cX0_matchOf 14 = .ok (.iconst 0, 1) := dk_3 (dk_at dksX0_matchOf_0 14 rfl rfl)
theorem dX0_matchOf_15 : decode cX0_matchOf 15 = .ok (.istore 4, 2) := dk_54 4 (dk_at dksX0_matchOf_0 15 rfl rfl)
theorem dX0_matchOf_17 : decode cX0_matchOf 17 = .ok (.iload 4, 2) := dk_21 4 (dk_at dksX0_matchOf_0 17 rfl rfl)
theorem dX0_matchOf_19 : decode cX0_matchOf 19 = .ok (.bipush 10, 2) := dk_16 10 (dk_at dksX0_matchOf_0 19 rfl rfl)
theorem dX0_matchOf_21 : decode cX0_matchOf 21 = .ok (.if_icmp .ge 75, 3) := dk_162 0 75 (dk_at dksX0_matchOf_0 21 rfl rfl)
theorem dX0_matchOf_24 : decode cX0_matchOf 24 = .ok (.iload_n 3, 1) := dk_29 (dk_at dksX0_matchOf_1 0 rfl rfl)
theorem dX0_matchOf_25 : decode cX0_matchOf 25 = .ok (.aload_n 0, 1) := dk_42 (dk_at dksX0_matchOf_1 1 rfl rfl)
theorem dX0_matchOf_26 : decode cX0_matchOf 26 = .ok (.getfield 12, 3) := dk_180 0 12 (dk_at dksX0_matchOf_1 2 rfl rfl)
theorem dX0_matchOf_29 : decode cX0_matchOf 29 = .ok (.iconst 0, 1) := dk_3 (dk_at dksX0_matchOf_1 5 rfl rfl)
theorem dX0_matchOf_30 : decode cX0_matchOf 30 = .ok (.aload_n 0, 1) := dk_42 (dk_at dksX0_matchOf_1 6 rfl rfl)
theorem dX0_matchOf_31 : decode cX0_matchOf 31 = .ok (.getfield 12, 3) := dk_180 0 12 (dk_at dksX0_matchOf_1 7 rfl rfl)
theorem dX0_matchOf_34 : decode cX0_matchOf 34 = .ok (.getfield 97, 3) := dk_180 0 97 (dk_at dksX0_matchOf_1 10 rfl rfl)
theorem dX0_matchOf_37 : decode cX0_matchOf 37 = .ok (.iload_n 1, 1) := dk_27 (dk_at dksX0_matchOf_1 13 rfl rfl)
theorem dX0_matchOf_38 : decode cX0_matchOf 38 = .ok (.invokevirtual 104, 3) := dk_182 0 104 (dk_at dksX0_matchOf_1 14 rfl rfl)
theorem dX0_matchOf_41 : decode cX0_matchOf 41 = .ok (.checkcast 112, 3) := dk_192 0 112 (dk_at dksX0_matchOf_1 17 rfl rfl)
theorem dX0_matchOf_44 : decode cX0_matchOf 44 = .ok (.invokevirtual 206, 3) := dk_182 0 206 (dk_at dksX0_matchOf_1 20 rfl rfl)
theorem dX0_matchOf_47 : decode cX0_matchOf 47 = .ok (.ifCond .eq 7, 3) := dk_153 0 7 (dk_at dksX0_matchOf_2 0 rfl rfl)
theorem dX0_matchOf_50 : decode cX0_matchOf 50 = .ok (.iconst 1, 1) := dk_4 (dk_at dksX0_matchOf_2 3 rfl rfl)
theorem dX0_matchOf_51 : decode cX0_matchOf 51 = .ok (.goto 4, 3) := dk_167 0 4 (dk_at dksX0_matchOf_2 4 rfl rfl)
theorem dX0_matchOf_54 : decode cX0_matchOf 54 = .ok (.iconst 0, 1) := dk_3 (dk_at dksX0_matchOf_2 7 rfl rfl)
theorem dX0_matchOf_55 : decode cX0_matchOf 55 = .ok (.iadd, 1) := dk_96 (dk_at dksX0_matchOf_2 8 rfl rfl)
theorem dX0_matchOf_56 : decode cX0_matchOf 56 = .ok (.istore_n 3, 1) := dk_62 (dk_at dksX0_matchOf_2 9 rfl rfl)
theorem dX0_matchOf_57 : decode cX0_matchOf 57 = .ok (.iload_n 3, 1) := dk_29 (dk_at dksX0_matchOf_2 10 rfl rfl)
theorem dX0_matchOf_58 : decode cX0_matchOf 58 = .ok (.aload_n 0, 1) := dk_42 (dk_at dksX0_matchOf_2 11 rfl rfl)
theorem dX0_matchOf_59 : decode cX0_matchOf 59 = .ok (.getfield 12, 3) := dk_180 0 12 (dk_at dksX0_matchOf_2 12 rfl rfl)
theorem dX0_matchOf_62 : decode cX0_matchOf 62 = .ok (.iconst 1, 1) := dk_4 (dk_at dksX0_matchOf_2 15 rfl rfl)
theorem dX0_matchOf_63 : decode cX0_matchOf 63 = .ok (.aload_n 0, 1) := dk_42 (dk_at dksX0_matchOf_2 16 rfl rfl)
theorem dX0_matchOf_64 : decode cX0_matchOf 64 = .ok (.getfield 12, 3) := dk_180 0 12 (dk_at dksX0_matchOf_2 17 rfl rfl)
theorem dX0_matchOf_67 : decode cX0_matchOf 67 = .ok (.getfield 97, 3) := dk_180 0 97 (dk_at dksX0_matchOf_2 20 rfl rfl)
theorem dX0_matchOf_70 : decode cX0_matchOf 70 = .ok (.iload_n 2, 1) := dk_28 (dk_at dksX0_matchOf_2 23 rfl rfl)
theorem dX0_matchOf_71 : decode cX0_matchOf 71 = .ok (.invokevirtual 104, 3) := dk_182 0 104 (dk_at dksX0_matchOf_3 0 rfl rfl)
theorem dX0_matchOf_74 : decode cX0_matchOf 74 = .ok (.checkcast 112, 3) := dk_192 0 112 (dk_at dksX0_matchOf_3 3 rfl rfl)
theorem dX0_matchOf_77 : decode cX0_matchOf 77 = .ok (.invokevirtual 206, 3) := dk_182 0 206 (dk_at dksX0_matchOf_3 6 rfl rfl)
theorem dX0_matchOf_80 : decode cX0_matchOf 80 = .ok (.ifCond .eq 7, 3) := dk_153 0 7 (dk_at dksX0_matchOf_3 9 rfl rfl)
theorem dX0_matchOf_83 : decode cX0_matchOf 83 = .ok (.iconst 1, 1) := dk_4 (dk_at dksX0_matchOf_3 12 rfl rfl)
theorem dX0_matchOf_84 : decode cX0_matchOf 84 = .ok (.goto 4, 3) := dk_167 0 4 (dk_at dksX0_matchOf_3 13 rfl rfl)
theorem dX0_matchOf_87 : decode cX0_matchOf 87 = .ok (.iconst 0, 1) := dk_3 (dk_at dksX0_matchOf_3 16 rfl rfl)
theorem dX0_matchOf_88 : decode cX0_matchOf 88 = .ok (.isub, 1) := dk_100 (dk_at dksX0_matchOf_3 17 rfl rfl)
theorem dX0_matchOf_89 : decode cX0_matchOf 89 = .ok (.istore_n 3, 1) := dk_62 (dk_at dksX0_matchOf_3 18 rfl rfl)
theorem dX0_matchOf_90 : decode cX0_matchOf 90 = .ok (.iinc 4 1, 3) := dk_132 4 1 (dk_at dksX0_matchOf_3 19 rfl rfl)
theorem dX0_matchOf_93 : decode cX0_matchOf 93 = .ok (.goto (-76), 3) := dk_167 255 180 (dk_at dksX0_matchOf_4 0 rfl rfl)
theorem dX0_matchOf_96 : decode cX0_matchOf 96 = .ok (.aload_n 0, 1) := dk_42 (dk_at dksX0_matchOf_4 3 rfl rfl)
theorem dX0_matchOf_97 : decode cX0_matchOf 97 = .ok (.getfield 12, 3) := dk_180 0 12 (dk_at dksX0_matchOf_4 4 rfl rfl)
theorem dX0_matchOf_100 : decode cX0_matchOf 100 = .ok (.aload_n 0, 1) := dk_42 (dk_at dksX0_matchOf_4 7 rfl rfl)
theorem dX0_matchOf_101 : decode cX0_matchOf 101 = .ok (.getfield 34, 3) := dk_180 0 34 (dk_at dksX0_matchOf_4 8 rfl rfl)
theorem dX0_matchOf_104 : decode cX0_matchOf 104 = .ok (.iconst 0, 1) := dk_3 (dk_at dksX0_matchOf_4 11 rfl rfl)
theorem dX0_matchOf_105 : decode cX0_matchOf 105 = .ok (.invokevirtual 237, 3) := dk_182 0 237 (dk_at dksX0_matchOf_4 12 rfl rfl)
theorem dX0_matchOf_108 : decode cX0_matchOf 108 = .ok (.iload_n 3, 1) := dk_29 (dk_at dksX0_matchOf_4 15 rfl rfl)
theorem dX0_matchOf_109 : decode cX0_matchOf 109 = .ok (.ireturn, 1) := dk_172 (dk_at dksX0_matchOf_4 16 rfl rfl)
abbrev cX0_reply : ByteArray := prog_1_method_31_code
def yX0_reply : MethodName := ⟨RX0, "reply", "(I)I"⟩
def dkwX0_reply_2 : List UInt8 := [164, 0, 5, 29, 61, 132, 3, 1, 167, 255, 222, 28, 172]
abbrev dktX0_reply_2 : List UInt8 := dkwX0_reply_2 ++ []
def dkwX0_reply_1 : List UInt8 := [180, 0, 12, 180, 0, 97, 182, 0, 68, 162, 0, 26, 42, 29, 27, 182, 1, 8, 42, 28, 27, 182, 1, 8]
abbrev dktX0_reply_1 : List UInt8 := dkwX0_reply_1 ++ dktX0_reply_2
def dkwX0_reply_0 : List UInt8 := [42, 27, 182, 1, 2, 153, 0, 10, 42, 182, 1, 5, 154, 0, 5, 2, 172, 3, 61, 4, 62, 29, 42]
abbrev dktX0_reply_0 : List UInt8 := dkwX0_reply_0 ++ dktX0_reply_1
theorem dksX0_reply_0 : cX0_reply.data.toList.drop 0 = dktX0_reply_0 := by decide +kernel
theorem dksX0_reply_1 : cX0_reply.data.toList.drop 23 = dktX0_reply_1 := dk_seg dksX0_reply_0 23 rfl rfl
theorem dksX0_reply_2 : cX0_reply.data.toList.drop 47 = dktX0_reply_2 := dk_seg dksX0_reply_1 24 rfl rfl
theorem dX0_reply_0 : decode cX0_reply 0 = .ok (.aload_n 0, 1) := dk_42 (dk_at dksX0_reply_0 0 rfl rfl)
theorem dX0_reply_1 : decode cX0_reply 1 = .ok (.iload_n 1, 1) := dk_27 (dk_at dksX0_reply_0 1 rfl rfl)
theorem dX0_reply_2 : decode cX0_reply 2 = .ok (.invokevirtual 258, 3) := dk_182 1 2 (dk_at dksX0_reply_0 2 rfl rfl)
theorem dX0_reply_5 : decode cX0_reply 5 = .ok (.ifCond .eq 10, 3) := dk_153 0 10 (dk_at dksX0_reply_0 5 rfl rfl)
theorem dX0_reply_8 : decode cX0_reply 8 = .ok (.aload_n 0, 1) := dk_42 (dk_at dksX0_reply_0 8 rfl rfl)
theorem dX0_reply_9 : decode cX0_reply 9 = .ok (.invokevirtual 261, 3) := dk_182 1 5 (dk_at dksX0_reply_0 9 rfl rfl)
theorem dX0_reply_12 : decode cX0_reply 12 = .ok (.ifCond .ne 5, 3) := dk_154 0 5 (dk_at dksX0_reply_0 12 rfl rfl)
theorem dX0_reply_15 : decode cX0_reply 15 = .ok (.iconst (-1), 1) := dk_2 (dk_at dksX0_reply_0 15 rfl rfl)
theorem dX0_reply_16 : decode cX0_reply 16 = .ok (.ireturn, 1) := dk_172 (dk_at dksX0_reply_0 16 rfl rfl)
theorem dX0_reply_17 : decode cX0_reply 17 = .ok (.iconst 0, 1) := dk_3 (dk_at dksX0_reply_0 17 rfl rfl)
theorem dX0_reply_18 : decode cX0_reply 18 = .ok (.istore_n 2, 1) := dk_61 (dk_at dksX0_reply_0 18 rfl rfl)
theorem dX0_reply_19 : decode cX0_reply 19 = .ok (.iconst 1, 1) := dk_4 (dk_at dksX0_reply_0 19 rfl rfl)
theorem dX0_reply_20 : decode cX0_reply 20 = .ok (.istore_n 3, 1) := dk_62 (dk_at dksX0_reply_0 20 rfl rfl)
theorem dX0_reply_21 : decode cX0_reply 21 = .ok (.iload_n 3, 1) := dk_29 (dk_at dksX0_reply_0 21 rfl rfl)
theorem dX0_reply_22 : decode cX0_reply 22 = .ok (.aload_n 0, 1) := dk_42 (dk_at dksX0_reply_0 22 rfl rfl)
theorem dX0_reply_23 : decode cX0_reply 23 = .ok (.getfield 12, 3) := dk_180 0 12 (dk_at dksX0_reply_1 0 rfl rfl)
theorem dX0_reply_26 : decode cX0_reply 26 = .ok (.getfield 97, 3) := dk_180 0 97 (dk_at dksX0_reply_1 3 rfl rfl)
theorem dX0_reply_29 : decode cX0_reply 29 = .ok (.invokevirtual 68, 3) := dk_182 0 68 (dk_at dksX0_reply_1 6 rfl rfl)
theorem dX0_reply_32 : decode cX0_reply 32 = .ok (.if_icmp .ge 26, 3) := dk_162 0 26 (dk_at dksX0_reply_1 9 rfl rfl)
theorem dX0_reply_35 : decode cX0_reply 35 = .ok (.aload_n 0, 1) := dk_42 (dk_at dksX0_reply_1 12 rfl rfl)
theorem dX0_reply_36 : decode cX0_reply 36 = .ok (.iload_n 3, 1) := dk_29 (dk_at dksX0_reply_1 13 rfl rfl)
theorem dX0_reply_37 : decode cX0_reply 37 = .ok (.iload_n 1, 1) := dk_27 (dk_at dksX0_reply_1 14 rfl rfl)
theorem dX0_reply_38 : decode cX0_reply 38 = .ok (.invokevirtual 264, 3) := dk_182 1 8 (dk_at dksX0_reply_1 15 rfl rfl)
theorem dX0_reply_41 : decode cX0_reply 41 = .ok (.aload_n 0, 1) := dk_42 (dk_at dksX0_reply_1 18 rfl rfl)
theorem dX0_reply_42 : decode cX0_reply 42 = .ok (.iload_n 2, 1) := dk_28 (dk_at dksX0_reply_1 19 rfl rfl)
theorem dX0_reply_43 : decode cX0_reply 43 = .ok (.iload_n 1, 1) := dk_27 (dk_at dksX0_reply_1 20 rfl rfl)
theorem dX0_reply_44 : decode cX0_reply 44 = .ok (.invokevirtual 264, 3) := dk_182 1 8 (dk_at dksX0_reply_1 21 rfl rfl)
theorem dX0_reply_47 : decode cX0_reply 47 = .ok (.if_icmp .le 5, 3) := dk_164 0 5 (dk_at dksX0_reply_2 0 rfl rfl)
theorem dX0_reply_50 : decode cX0_reply 50 = .ok (.iload_n 3, 1) := dk_29 (dk_at dksX0_reply_2 3 rfl rfl)
theorem dX0_reply_51 : decode cX0_reply 51 = .ok (.istore_n 2, 1) := dk_61 (dk_at dksX0_reply_2 4 rfl rfl)
theorem dX0_reply_52 : decode cX0_reply 52 = .ok (.iinc 3 1, 3) := dk_132 3 1 (dk_at dksX0_reply_2 5 rfl rfl)
theorem dX0_reply_55 : decode cX0_reply 55 = .ok (.goto (-34), 3) := dk_167 255 222 (dk_at dksX0_reply_2 8 rfl rfl)
theorem dX0_reply_58 : decode cX0_reply 58 = .ok (.iload_n 2, 1) := dk_28 (dk_at dksX0_reply_2 11 rfl rfl)
theorem dX0_reply_59 : decode cX0_reply 59 = .ok (.ireturn, 1) := dk_172 (dk_at dksX0_reply_2 12 rfl rfl)
abbrev cX0_lies : ByteArray := prog_1_method_32_code
def yX0_lies : MethodName := ⟨RX0, "lies", "(I)I"⟩
def dkwX0_lies_1 : List UInt8 := [172]
abbrev dktX0_lies_1 : List UInt8 := dkwX0_lies_1 ++ []
def dkwX0_lies_0 : List UInt8 := [27, 3, 42, 180, 0, 62, 4, 100, 184, 0, 90, 153, 0, 12, 42, 180, 0, 38, 27, 46, 167, 0, 4, 2]
abbrev dktX0_lies_0 : List UInt8 := dkwX0_lies_0 ++ dktX0_lies_1
theorem dksX0_lies_0 : cX0_lies.data.toList.drop 0 = dktX0_lies_0 := by decide +kernel
theorem dksX0_lies_1 : cX0_lies.data.toList.drop 24 = dktX0_lies_1 := dk_seg dksX0_lies_0 24 rfl rfl
theorem dX0_lies_0 : decode cX0_lies 0 = .ok (.iload_n 1, 1) := dk_27 (dk_at dksX0_lies_0 0 rfl rfl)
theorem dX0_lies_1 : decode cX0_lies 1 = .ok (.iconst 0, 1) := dk_3 (dk_at dksX0_lies_0 1 rfl rfl)
theorem dX0_lies_2 : decode cX0_lies 2 = .ok (.aload_n 0, 1) := dk_42 (dk_at dksX0_lies_0 2 rfl rfl)
theorem dX0_lies_3 : decode cX0_lies 3 = .ok (.getfield 62, 3) := dk_180 0 62 (dk_at dksX0_lies_0 3 rfl rfl)
theorem dX0_lies_6 : decode cX0_lies 6 = .ok (.iconst 1, 1) := dk_4 (dk_at dksX0_lies_0 6 rfl rfl)
theorem dX0_lies_7 : decode cX0_lies 7 = .ok (.isub, 1) := dk_100 (dk_at dksX0_lies_0 7 rfl rfl)
theorem dX0_lies_8 : decode cX0_lies 8 = .ok (.invokestatic 90, 3) := dk_184 0 90 (dk_at dksX0_lies_0 8 rfl rfl)
theorem dX0_lies_11 : decode cX0_lies 11 = .ok (.ifCond .eq 12, 3) := dk_153 0 12 (dk_at dksX0_lies_0 11 rfl rfl)
theorem dX0_lies_14 : decode cX0_lies 14 = .ok (.aload_n 0, 1) := dk_42 (dk_at dksX0_lies_0 14 rfl rfl)
theorem dX0_lies_15 : decode cX0_lies 15 = .ok (.getfield 38, 3) := dk_180 0 38 (dk_at dksX0_lies_0 15 rfl rfl)
theorem dX0_lies_18 : decode cX0_lies 18 = .ok (.iload_n 1, 1) := dk_27 (dk_at dksX0_lies_0 18 rfl rfl)
theorem dX0_lies_19 : decode cX0_lies 19 = .ok (.iaload, 1) := dk_46 (dk_at dksX0_lies_0 19 rfl rfl)
theorem dX0_lies_20 : decode cX0_lies 20 = .ok (.goto 4, 3) := dk_167 0 4 (dk_at dksX0_lies_0 20 rfl rfl)
theorem dX0_lies_23 : decode cX0_lies 23 = .ok (.iconst (-1), 1) := dk_2 (dk_at dksX0_lies_0 23 rfl rfl)
theorem dX0_lies_24 : decode cX0_lies 24 = .ok (.ireturn, 1) := dk_172 (dk_at dksX0_lies_1 0 rfl rfl)
abbrev cX0_rests : ByteArray := prog_1_method_33_code
def yX0_rests : MethodName := ⟨RX0, "rests", "()I"⟩
def dkwX0_rests_7 : List UInt8 := [181, 0, 62, 132, 3, 1, 167, 255, 147, 42, 180, 0, 62, 172]
abbrev dktX0_rests_7 : List UInt8 := dkwX0_rests_7 ++ []
def dkwX0_rests_6 : List UInt8 := [42, 180, 0, 62, 16, 10, 29, 27, 108, 104, 29, 27, 112, 96, 79, 42, 89, 180, 0, 62, 4, 96]
abbrev dktX0_rests_6 : List UInt8 := dkwX0_rests_6 ++ dktX0_rests_7
def dkwX0_rests_5 : List UInt8 := [167, 0, 4, 3, 54, 4, 132, 5, 1, 167, 255, 203, 21, 4, 154, 0, 6, 167, 0, 32, 42, 180, 0, 38]
abbrev dktX0_rests_5 : List UInt8 := dkwX0_rests_5 ++ dktX0_rests_6
def dkwX0_rests_4 : List UInt8 := [29, 46, 163, 0, 23, 44, 29, 27, 108, 27, 104, 21, 5, 96, 46, 44, 29, 46, 161, 0, 7, 4]
abbrev dktX0_rests_4 : List UInt8 := dkwX0_rests_4 ++ dktX0_rests_5
def dkwX0_rests_3 : List UInt8 := [54, 5, 21, 5, 27, 162, 0, 53, 21, 4, 153, 0, 39, 44, 21, 5, 27, 104, 29, 27, 112, 96, 46, 44]
abbrev dktX0_rests_3 : List UInt8 := dkwX0_rests_3 ++ dktX0_rests_4
def dkwX0_rests_2 : List UInt8 := [182, 1, 8, 79, 132, 3, 1, 167, 255, 233, 3, 62, 29, 27, 27, 104, 162, 0, 108, 4, 54, 4, 3]
abbrev dktX0_rests_2 : List UInt8 := dkwX0_rests_2 ++ dktX0_rests_3
def dkwX0_rests_1 : List UInt8 := [172, 16, 36, 188, 10, 77, 3, 62, 29, 27, 27, 104, 162, 0, 22, 44, 29, 42, 29, 27, 108, 29, 27, 112]
abbrev dktX0_rests_1 : List UInt8 := dkwX0_rests_1 ++ dktX0_rests_2
def dkwX0_rests_0 : List UInt8 := [42, 3, 181, 0, 62, 42, 180, 0, 12, 180, 0, 97, 182, 0, 68, 60, 42, 182, 1, 5, 154, 0, 5, 3]
abbrev dktX0_rests_0 : List UInt8 := dkwX0_rests_0 ++ dktX0_rests_1
theorem dksX0_rests_0 : cX0_rests.data.toList.drop 0 = dktX0_rests_0 := by decide +kernel
theorem dksX0_rests_1 : cX0_rests.data.toList.drop 24 = dktX0_rests_1 := dk_seg dksX0_rests_0 24 rfl rfl
theorem dksX0_rests_2 : cX0_rests.data.toList.drop 48 = dktX0_rests_2 := dk_seg dksX0_rests_1 24 rfl rfl
theorem dksX0_rests_3 : cX0_rests.data.toList.drop 71 = dktX0_rests_3 := dk_seg dksX0_rests_2 23 rfl rfl
theorem dksX0_rests_4 : cX0_rests.data.toList.drop 95 = dktX0_rests_4 := dk_seg dksX0_rests_3 24 rfl rfl
theorem dksX0_rests_5 : cX0_rests.data.toList.drop 117 = dktX0_rests_5 := dk_seg dksX0_rests_4 22 rfl rfl
theorem dksX0_rests_6 : cX0_rests.data.toList.drop 141 = dktX0_rests_6 := dk_seg dksX0_rests_5 24 rfl rfl
theorem dksX0_rests_7 : cX0_rests.data.toList.drop 163 = dktX0_rests_7 := dk_seg dksX0_rests_6 22 rfl rfl
theorem dX0_rests_0 : decode cX0_rests 0 = .ok (.aload_n 0, 1) := dk_42 (dk_at dksX0_rests_0 0 rfl rfl)
theorem dX0_rests_1 : decode cX0_rests 1 = .ok (.iconst 0, 1) := dk_3 (dk_at dksX0_rests_0 1 rfl rfl)
theorem dX0_rests_2 : decode cX0_rests 2 = .ok (.putfield 62, 3) := dk_181 0 62 (dk_at dksX0_rests_0 2 rfl rfl)
theorem dX0_rests_5 : decode cX0_rests 5 = .ok (.aload_n 0, 1) := dk_42 (dk_at dksX0_rests_0 5 rfl rfl)
theorem dX0_rests_6 : decode cX0_rests 6 = .ok (.getfield 12, 3) := dk_180 0 12 (dk_at dksX0_rests_0 6 rfl rfl)
theorem dX0_rests_9 : decode cX0_rests 9 = .ok (.getfield 97, 3) := dk_180 0 97 (dk_at dksX0_rests_0 9 rfl rfl)
theorem dX0_rests_12 : decode cX0_rests 12 = .ok (.invokevirtual 68, 3) := dk_182 0 68 (dk_at dksX0_rests_0 12 rfl rfl)
theorem dX0_rests_15 : decode cX0_rests 15 = .ok (.istore_n 1, 1) := dk_60 (dk_at dksX0_rests_0 15 rfl rfl)
theorem dX0_rests_16 : decode cX0_rests 16 = .ok (.aload_n 0, 1) := dk_42 (dk_at dksX0_rests_0 16 rfl rfl)
theorem dX0_rests_17 : decode cX0_rests 17 = .ok (.invokevirtual 261, 3) := dk_182 1 5 (dk_at dksX0_rests_0 17 rfl rfl)
theorem dX0_rests_20 : decode cX0_rests 20 = .ok (.ifCond .ne 5, 3) := dk_154 0 5 (dk_at dksX0_rests_0 20 rfl rfl)
theorem dX0_rests_23 : decode cX0_rests 23 = .ok (.iconst 0, 1) := dk_3 (dk_at dksX0_rests_0 23 rfl rfl)
theorem dX0_rests_24 : decode cX0_rests 24 = .ok (.ireturn, 1) := dk_172 (dk_at dksX0_rests_1 0 rfl rfl)
theorem dX0_rests_25 : decode cX0_rests 25 = .ok (.bipush 36, 2) := dk_16 36 (dk_at dksX0_rests_1 1 rfl rfl)
theorem dX0_rests_27 : decode cX0_rests 27 = .ok (.newarray .int, 2) := dk_188_10 (dk_at dksX0_rests_1 3 rfl rfl)
theorem dX0_rests_29 : decode cX0_rests 29 = .ok (.astore_n 2, 1) := dk_77 (dk_at dksX0_rests_1 5 rfl rfl)
theorem dX0_rests_30 : decode cX0_rests 30 = .ok (.iconst 0, 1) := dk_3 (dk_at dksX0_rests_1 6 rfl rfl)
theorem dX0_rests_31 : decode cX0_rests 31 = .ok (.istore_n 3, 1) := dk_62 (dk_at dksX0_rests_1 7 rfl rfl)
theorem dX0_rests_32 : decode cX0_rests 32 = .ok (.iload_n 3, 1) := dk_29 (dk_at dksX0_rests_1 8 rfl rfl)
theorem dX0_rests_33 : decode cX0_rests 33 = .ok (.iload_n 1, 1) := dk_27 (dk_at dksX0_rests_1 9 rfl rfl)
theorem dX0_rests_34 : decode cX0_rests 34 = .ok (.iload_n 1, 1) := dk_27 (dk_at dksX0_rests_1 10 rfl rfl)
theorem dX0_rests_35 : decode cX0_rests 35 = .ok (.imul, 1) := dk_104 (dk_at dksX0_rests_1 11 rfl rfl)
theorem dX0_rests_36 : decode cX0_rests 36 = .ok (.if_icmp .ge 22, 3) := dk_162 0 22 (dk_at dksX0_rests_1 12 rfl rfl)
theorem dX0_rests_39 : decode cX0_rests 39 = .ok (.aload_n 2, 1) := dk_44 (dk_at dksX0_rests_1 15 rfl rfl)
theorem dX0_rests_40 : decode cX0_rests 40 = .ok (.iload_n 3, 1) := dk_29 (dk_at dksX0_rests_1 16 rfl rfl)
theorem dX0_rests_41 : decode cX0_rests 41 = .ok (.aload_n 0, 1) := dk_42 (dk_at dksX0_rests_1 17 rfl rfl)
theorem dX0_rests_42 : decode cX0_rests 42 = .ok (.iload_n 3, 1) := dk_29 (dk_at dksX0_rests_1 18 rfl rfl)
theorem dX0_rests_43 : decode cX0_rests 43 = .ok (.iload_n 1, 1) := dk_27 (dk_at dksX0_rests_1 19 rfl rfl)
theorem dX0_rests_44 : decode cX0_rests 44 = .ok (.idiv, 1) := dk_108 (dk_at dksX0_rests_1 20 rfl rfl)
theorem dX0_rests_45 : decode cX0_rests 45 = .ok (.iload_n 3, 1) := dk_29 (dk_at dksX0_rests_1 21 rfl rfl)
theorem dX0_rests_46 : decode cX0_rests 46 = .ok (.iload_n 1, 1) := dk_27 (dk_at dksX0_rests_1 22 rfl rfl)
theorem dX0_rests_47 : decode cX0_rests 47 = .ok (.irem, 1) := dk_112 (dk_at dksX0_rests_1 23 rfl rfl)
theorem dX0_rests_48 : decode cX0_rests 48 = .ok (.invokevirtual 264, 3) := dk_182 1 8 (dk_at dksX0_rests_2 0 rfl rfl)
theorem dX0_rests_51 : decode cX0_rests 51 = .ok (.iastore, 1) := dk_79 (dk_at dksX0_rests_2 3 rfl rfl)
theorem dX0_rests_52 : decode cX0_rests 52 = .ok (.iinc 3 1, 3) := dk_132 3 1 (dk_at dksX0_rests_2 4 rfl rfl)
theorem dX0_rests_55 : decode cX0_rests 55 = .ok (.goto (-23), 3) := dk_167 255 233 (dk_at dksX0_rests_2 7 rfl rfl)
theorem dX0_rests_58 : decode cX0_rests 58 = .ok (.iconst 0, 1) := dk_3 (dk_at dksX0_rests_2 10 rfl rfl)
theorem dX0_rests_59 : decode cX0_rests 59 = .ok (.istore_n 3, 1) := dk_62 (dk_at dksX0_rests_2 11 rfl rfl)
theorem dX0_rests_60 : decode cX0_rests 60 = .ok (.iload_n 3, 1) := dk_29 (dk_at dksX0_rests_2 12 rfl rfl)
theorem dX0_rests_61 : decode cX0_rests 61 = .ok (.iload_n 1, 1) := dk_27 (dk_at dksX0_rests_2 13 rfl rfl)
theorem dX0_rests_62 : decode cX0_rests 62 = .ok (.iload_n 1, 1) := dk_27 (dk_at dksX0_rests_2 14 rfl rfl)
theorem dX0_rests_63 : decode cX0_rests 63 = .ok (.imul, 1) := dk_104 (dk_at dksX0_rests_2 15 rfl rfl)
theorem dX0_rests_64 : decode cX0_rests 64 = .ok (.if_icmp .ge 108, 3) := dk_162 0 108 (dk_at dksX0_rests_2 16 rfl rfl)
theorem dX0_rests_67 : decode cX0_rests 67 = .ok (.iconst 1, 1) := dk_4 (dk_at dksX0_rests_2 19 rfl rfl)
theorem dX0_rests_68 : decode cX0_rests 68 = .ok (.istore 4, 2) := dk_54 4 (dk_at dksX0_rests_2 20 rfl rfl)
theorem dX0_rests_70 : decode cX0_rests 70 = .ok (.iconst 0, 1) := dk_3 (dk_at dksX0_rests_2 22 rfl rfl)
theorem dX0_rests_71 : decode cX0_rests 71 = .ok (.istore 5, 2) := dk_54 5 (dk_at dksX0_rests_3 0 rfl rfl)
theorem dX0_rests_73 : decode cX0_rests 73 = .ok (.iload 5, 2) := dk_21 5 (dk_at dksX0_rests_3 2 rfl rfl)
theorem dX0_rests_75 : decode cX0_rests 75 = .ok (.iload_n 1, 1) := dk_27 (dk_at dksX0_rests_3 4 rfl rfl)
theorem dX0_rests_76 : decode cX0_rests 76 = .ok (.if_icmp .ge 53, 3) := dk_162 0 53 (dk_at dksX0_rests_3 5 rfl rfl)
theorem dX0_rests_79 : decode cX0_rests 79 = .ok (.iload 4, 2) := dk_21 4 (dk_at dksX0_rests_3 8 rfl rfl)
theorem dX0_rests_81 : decode cX0_rests 81 = .ok (.ifCond .eq 39, 3) := dk_153 0 39 (dk_at dksX0_rests_3 10 rfl rfl)
theorem dX0_rests_84 : decode cX0_rests 84 = .ok (.aload_n 2, 1) := dk_44 (dk_at dksX0_rests_3 13 rfl rfl)
theorem dX0_rests_85 : decode cX0_rests 85 = .ok (.iload 5, 2) := dk_21 5 (dk_at dksX0_rests_3 14 rfl rfl)
theorem dX0_rests_87 : decode cX0_rests 87 = .ok (.iload_n 1, 1) := dk_27 (dk_at dksX0_rests_3 16 rfl rfl)
theorem dX0_rests_88 : decode cX0_rests 88 = .ok (.imul, 1) := dk_104 (dk_at dksX0_rests_3 17 rfl rfl)
theorem dX0_rests_89 : decode cX0_rests 89 = .ok (.iload_n 3, 1) := dk_29 (dk_at dksX0_rests_3 18 rfl rfl)
theorem dX0_rests_90 : decode cX0_rests 90 = .ok (.iload_n 1, 1) := dk_27 (dk_at dksX0_rests_3 19 rfl rfl)
theorem dX0_rests_91 : decode cX0_rests 91 = .ok (.irem, 1) := dk_112 (dk_at dksX0_rests_3 20 rfl rfl)
theorem dX0_rests_92 : decode cX0_rests 92 = .ok (.iadd, 1) := dk_96 (dk_at dksX0_rests_3 21 rfl rfl)
theorem dX0_rests_93 : decode cX0_rests 93 = .ok (.iaload, 1) := dk_46 (dk_at dksX0_rests_3 22 rfl rfl)
theorem dX0_rests_94 : decode cX0_rests 94 = .ok (.aload_n 2, 1) := dk_44 (dk_at dksX0_rests_3 23 rfl rfl)
theorem dX0_rests_95 : decode cX0_rests 95 = .ok (.iload_n 3, 1) := dk_29 (dk_at dksX0_rests_4 0 rfl rfl)
theorem dX0_rests_96 : decode cX0_rests 96 = .ok (.iaload, 1) := dk_46 (dk_at dksX0_rests_4 1 rfl rfl)
theorem dX0_rests_97 : decode cX0_rests 97 = .ok (.if_icmp .gt 23, 3) := dk_163 0 23 (dk_at dksX0_rests_4 2 rfl rfl)
theorem dX0_rests_100 : decode cX0_rests 100 = .ok (.aload_n 2, 1) := dk_44 (dk_at dksX0_rests_4 5 rfl rfl)
theorem dX0_rests_101 : decode cX0_rests 101 = .ok (.iload_n 3, 1) := dk_29 (dk_at dksX0_rests_4 6 rfl rfl)
theorem dX0_rests_102 : decode cX0_rests 102 = .ok (.iload_n 1, 1) := dk_27 (dk_at dksX0_rests_4 7 rfl rfl)
theorem dX0_rests_103 : decode cX0_rests 103 = .ok (.idiv, 1) := dk_108 (dk_at dksX0_rests_4 8 rfl rfl)
theorem dX0_rests_104 : decode cX0_rests 104 = .ok (.iload_n 1, 1) := dk_27 (dk_at dksX0_rests_4 9 rfl rfl)
theorem dX0_rests_105 : decode cX0_rests 105 = .ok (.imul, 1) := dk_104 (dk_at dksX0_rests_4 10 rfl rfl)
theorem dX0_rests_106 : decode cX0_rests 106 = .ok (.iload 5, 2) := dk_21 5 (dk_at dksX0_rests_4 11 rfl rfl)
theorem dX0_rests_108 : decode cX0_rests 108 = .ok (.iadd, 1) := dk_96 (dk_at dksX0_rests_4 13 rfl rfl)
theorem dX0_rests_109 : decode cX0_rests 109 = .ok (.iaload, 1) := dk_46 (dk_at dksX0_rests_4 14 rfl rfl)
theorem dX0_rests_110 : decode cX0_rests 110 = .ok (.aload_n 2, 1) := dk_44 (dk_at dksX0_rests_4 15 rfl rfl)
theorem dX0_rests_111 : decode cX0_rests 111 = .ok (.iload_n 3, 1) := dk_29 (dk_at dksX0_rests_4 16 rfl rfl)
theorem dX0_rests_112 : decode cX0_rests 112 = .ok (.iaload, 1) := dk_46 (dk_at dksX0_rests_4 17 rfl rfl)
theorem dX0_rests_113 : decode cX0_rests 113 = .ok (.if_icmp .lt 7, 3) := dk_161 0 7 (dk_at dksX0_rests_4 18 rfl rfl)
theorem dX0_rests_116 : decode cX0_rests 116 = .ok (.iconst 1, 1) := dk_4 (dk_at dksX0_rests_4 21 rfl rfl)
theorem dX0_rests_117 : decode cX0_rests 117 = .ok (.goto 4, 3) := dk_167 0 4 (dk_at dksX0_rests_5 0 rfl rfl)
theorem dX0_rests_120 : decode cX0_rests 120 = .ok (.iconst 0, 1) := dk_3 (dk_at dksX0_rests_5 3 rfl rfl)
theorem dX0_rests_121 : decode cX0_rests 121 = .ok (.istore 4, 2) := dk_54 4 (dk_at dksX0_rests_5 4 rfl rfl)
theorem dX0_rests_123 : decode cX0_rests 123 = .ok (.iinc 5 1, 3) := dk_132 5 1 (dk_at dksX0_rests_5 6 rfl rfl)
theorem dX0_rests_126 : decode cX0_rests 126 = .ok (.goto (-53), 3) := dk_167 255 203 (dk_at dksX0_rests_5 9 rfl rfl)
theorem dX0_rests_129 : decode cX0_rests 129 = .ok (.iload 4, 2) := dk_21 4 (dk_at dksX0_rests_5 12 rfl rfl)
theorem dX0_rests_131 : decode cX0_rests 131 = .ok (.ifCond .ne 6, 3) := dk_154 0 6 (dk_at dksX0_rests_5 14 rfl rfl)
theorem dX0_rests_134 : decode cX0_rests 134 = .ok (.goto 32, 3) := dk_167 0 32 (dk_at dksX0_rests_5 17 rfl rfl)
theorem dX0_rests_137 : decode cX0_rests 137 = .ok (.aload_n 0, 1) := dk_42 (dk_at dksX0_rests_5 20 rfl rfl)
theorem dX0_rests_138 : decode cX0_rests 138 = .ok (.getfield 38, 3) := dk_180 0 38 (dk_at dksX0_rests_5 21 rfl rfl)
theorem dX0_rests_141 : decode cX0_rests 141 = .ok (.aload_n 0, 1) := dk_42 (dk_at dksX0_rests_6 0 rfl rfl)
theorem dX0_rests_142 : decode cX0_rests 142 = .ok (.getfield 62, 3) := dk_180 0 62 (dk_at dksX0_rests_6 1 rfl rfl)
theorem dX0_rests_145 : decode cX0_rests 145 = .ok (.bipush 10, 2) := dk_16 10 (dk_at dksX0_rests_6 4 rfl rfl)
theorem dX0_rests_147 : decode cX0_rests 147 = .ok (.iload_n 3, 1) := dk_29 (dk_at dksX0_rests_6 6 rfl rfl)
theorem dX0_rests_148 : decode cX0_rests 148 = .ok (.iload_n 1, 1) := dk_27 (dk_at dksX0_rests_6 7 rfl rfl)
theorem dX0_rests_149 : decode cX0_rests 149 = .ok (.idiv, 1) := dk_108 (dk_at dksX0_rests_6 8 rfl rfl)
theorem dX0_rests_150 : decode cX0_rests 150 = .ok (.imul, 1) := dk_104 (dk_at dksX0_rests_6 9 rfl rfl)
theorem dX0_rests_151 : decode cX0_rests 151 = .ok (.iload_n 3, 1) := dk_29 (dk_at dksX0_rests_6 10 rfl rfl)
theorem dX0_rests_152 : decode cX0_rests 152 = .ok (.iload_n 1, 1) := dk_27 (dk_at dksX0_rests_6 11 rfl rfl)
theorem dX0_rests_153 : decode cX0_rests 153 = .ok (.irem, 1) := dk_112 (dk_at dksX0_rests_6 12 rfl rfl)
theorem dX0_rests_154 : decode cX0_rests 154 = .ok (.iadd, 1) := dk_96 (dk_at dksX0_rests_6 13 rfl rfl)
theorem dX0_rests_155 : decode cX0_rests 155 = .ok (.iastore, 1) := dk_79 (dk_at dksX0_rests_6 14 rfl rfl)
theorem dX0_rests_156 : decode cX0_rests 156 = .ok (.aload_n 0, 1) := dk_42 (dk_at dksX0_rests_6 15 rfl rfl)
theorem dX0_rests_157 : decode cX0_rests 157 = .ok (.dup, 1) := dk_89 (dk_at dksX0_rests_6 16 rfl rfl)
theorem dX0_rests_158 : decode cX0_rests 158 = .ok (.getfield 62, 3) := dk_180 0 62 (dk_at dksX0_rests_6 17 rfl rfl)
theorem dX0_rests_161 : decode cX0_rests 161 = .ok (.iconst 1, 1) := dk_4 (dk_at dksX0_rests_6 20 rfl rfl)
theorem dX0_rests_162 : decode cX0_rests 162 = .ok (.iadd, 1) := dk_96 (dk_at dksX0_rests_6 21 rfl rfl)
theorem dX0_rests_163 : decode cX0_rests 163 = .ok (.putfield 62, 3) := dk_181 0 62 (dk_at dksX0_rests_7 0 rfl rfl)
theorem dX0_rests_166 : decode cX0_rests 166 = .ok (.iinc 3 1, 3) := dk_132 3 1 (dk_at dksX0_rests_7 3 rfl rfl)
theorem dX0_rests_169 : decode cX0_rests 169 = .ok (.goto (-109), 3) := dk_167 255 147 (dk_at dksX0_rests_7 6 rfl rfl)
theorem dX0_rests_172 : decode cX0_rests 172 = .ok (.aload_n 0, 1) := dk_42 (dk_at dksX0_rests_7 9 rfl rfl)
theorem dX0_rests_173 : decode cX0_rests 173 = .ok (.getfield 62, 3) := dk_180 0 62 (dk_at dksX0_rests_7 10 rfl rfl)
theorem dX0_rests_176 : decode cX0_rests 176 = .ok (.ireturn, 1) := dk_172 (dk_at dksX0_rests_7 13 rfl rfl)
abbrev cX0_record : ByteArray := prog_1_method_34_code
def yX0_record : MethodName := ⟨RX0, "record", "(III)I"⟩
def dkwX0_record_2 : List UInt8 := [96, 46, 167, 0, 4, 2, 172]
abbrev dktX0_record_2 : List UInt8 := dkwX0_record_2 ++ []
def dkwX0_record_1 : List UInt8 := [153, 0, 29, 42, 180, 0, 12, 180, 0, 94, 27, 182, 0, 104, 192, 0, 107, 180, 1, 12, 6, 28, 104, 29]
abbrev dktX0_record_1 : List UInt8 := dkwX0_record_1 ++ dktX0_record_2
def dkwX0_record_0 : List UInt8 := [42, 27, 182, 0, 161, 153, 0, 47, 28, 3, 7, 184, 0, 90, 153, 0, 38, 29, 3, 5, 184, 0, 90]
abbrev dktX0_record_0 : List UInt8 := dkwX0_record_0 ++ dktX0_record_1
theorem dksX0_record_0 : cX0_record.data.toList.drop 0 = dktX0_record_0 := by decide +kernel
theorem dksX0_record_1 : cX0_record.data.toList.drop 23 = dktX0_record_1 := dk_seg dksX0_record_0 23 rfl rfl
theorem dksX0_record_2 : cX0_record.data.toList.drop 47 = dktX0_record_2 := dk_seg dksX0_record_1 24 rfl rfl
theorem dX0_record_0 : decode cX0_record 0 = .ok (.aload_n 0, 1) := dk_42 (dk_at dksX0_record_0 0 rfl rfl)
theorem dX0_record_1 : decode cX0_record 1 = .ok (.iload_n 1, 1) := dk_27 (dk_at dksX0_record_0 1 rfl rfl)
theorem dX0_record_2 : decode cX0_record 2 = .ok (.invokevirtual 161, 3) := dk_182 0 161 (dk_at dksX0_record_0 2 rfl rfl)
theorem dX0_record_5 : decode cX0_record 5 = .ok (.ifCond .eq 47, 3) := dk_153 0 47 (dk_at dksX0_record_0 5 rfl rfl)
theorem dX0_record_8 : decode cX0_record 8 = .ok (.iload_n 2, 1) := dk_28 (dk_at dksX0_record_0 8 rfl rfl)
theorem dX0_record_9 : decode cX0_record 9 = .ok (.iconst 0, 1) := dk_3 (dk_at dksX0_record_0 9 rfl rfl)
theorem dX0_record_10 : decode cX0_record 10 = .ok (.iconst 4, 1) := dk_7 (dk_at dksX0_record_0 10 rfl rfl)
theorem dX0_record_11 : decode cX0_record 11 = .ok (.invokestatic 90, 3) := dk_184 0 90 (dk_at dksX0_record_0 11 rfl rfl)
theorem dX0_record_14 : decode cX0_record 14 = .ok (.ifCond .eq 38, 3) := dk_153 0 38 (dk_at dksX0_record_0 14 rfl rfl)
theorem dX0_record_17 : decode cX0_record 17 = .ok (.iload_n 3, 1) := dk_29 (dk_at dksX0_record_0 17 rfl rfl)
theorem dX0_record_18 : decode cX0_record 18 = .ok (.iconst 0, 1) := dk_3 (dk_at dksX0_record_0 18 rfl rfl)
theorem dX0_record_19 : decode cX0_record 19 = .ok (.iconst 2, 1) := dk_5 (dk_at dksX0_record_0 19 rfl rfl)
theorem dX0_record_20 : decode cX0_record 20 = .ok (.invokestatic 90, 3) := dk_184 0 90 (dk_at dksX0_record_0 20 rfl rfl)
theorem dX0_record_23 : decode cX0_record 23 = .ok (.ifCond .eq 29, 3) := dk_153 0 29 (dk_at dksX0_record_1 0 rfl rfl)
theorem dX0_record_26 : decode cX0_record 26 = .ok (.aload_n 0, 1) := dk_42 (dk_at dksX0_record_1 3 rfl rfl)
theorem dX0_record_27 : decode cX0_record 27 = .ok (.getfield 12, 3) := dk_180 0 12 (dk_at dksX0_record_1 4 rfl rfl)
theorem dX0_record_30 : decode cX0_record 30 = .ok (.getfield 94, 3) := dk_180 0 94 (dk_at dksX0_record_1 7 rfl rfl)
theorem dX0_record_33 : decode cX0_record 33 = .ok (.iload_n 1, 1) := dk_27 (dk_at dksX0_record_1 10 rfl rfl)
theorem dX0_record_34 : decode cX0_record 34 = .ok (.invokevirtual 104, 3) := dk_182 0 104 (dk_at dksX0_record_1 11 rfl rfl)
theorem dX0_record_37 : decode cX0_record 37 = .ok (.checkcast 107, 3) := dk_192 0 107 (dk_at dksX0_record_1 14 rfl rfl)
theorem dX0_record_40 : decode cX0_record 40 = .ok (.getfield 268, 3) := dk_180 1 12 (dk_at dksX0_record_1 17 rfl rfl)
theorem dX0_record_43 : decode cX0_record 43 = .ok (.iconst 3, 1) := dk_6 (dk_at dksX0_record_1 20 rfl rfl)
theorem dX0_record_44 : decode cX0_record 44 = .ok (.iload_n 2, 1) := dk_28 (dk_at dksX0_record_1 21 rfl rfl)
theorem dX0_record_45 : decode cX0_record 45 = .ok (.imul, 1) := dk_104 (dk_at dksX0_record_1 22 rfl rfl)
theorem dX0_record_46 : decode cX0_record 46 = .ok (.iload_n 3, 1) := dk_29 (dk_at dksX0_record_1 23 rfl rfl)
theorem dX0_record_47 : decode cX0_record 47 = .ok (.iadd, 1) := dk_96 (dk_at dksX0_record_2 0 rfl rfl)
theorem dX0_record_48 : decode cX0_record 48 = .ok (.iaload, 1) := dk_46 (dk_at dksX0_record_2 1 rfl rfl)
theorem dX0_record_49 : decode cX0_record 49 = .ok (.goto 4, 3) := dk_167 0 4 (dk_at dksX0_record_2 2 rfl rfl)
theorem dX0_record_52 : decode cX0_record 52 = .ok (.iconst (-1), 1) := dk_2 (dk_at dksX0_record_2 5 rfl rfl)
theorem dX0_record_53 : decode cX0_record 53 = .ok (.ireturn, 1) := dk_172 (dk_at dksX0_record_2 6 rfl rfl)
abbrev cX0_easier : ByteArray := prog_1_method_35_code
def yX0_easier : MethodName := ⟨RX0, "easier", "(II)I"⟩
def dkwX0_easier_2 : List UInt8 := [182, 1, 15, 29, 164, 0, 6, 132, 4, 1, 132, 5, 1, 167, 255, 223, 21, 4, 172]
abbrev dktX0_easier_2 : List UInt8 := dkwX0_easier_2 ++ []
def dkwX0_easier_1 : List UInt8 := [54, 5, 21, 5, 42, 180, 0, 12, 180, 0, 87, 182, 0, 68, 162, 0, 24, 42, 27, 21, 5, 3]
abbrev dktX0_easier_1 : List UInt8 := dkwX0_easier_1 ++ dktX0_easier_2
def dkwX0_easier_0 : List UInt8 := [42, 27, 28, 3, 182, 0, 177, 154, 0, 5, 2, 172, 42, 27, 28, 3, 182, 1, 15, 62, 3, 54, 4, 3]
abbrev dktX0_easier_0 : List UInt8 := dkwX0_easier_0 ++ dktX0_easier_1
theorem dksX0_easier_0 : cX0_easier.data.toList.drop 0 = dktX0_easier_0 := by decide +kernel
theorem dksX0_easier_1 : cX0_easier.data.toList.drop 24 = dktX0_easier_1 := dk_seg dksX0_easier_0 24 rfl rfl
theorem dksX0_easier_2 : cX0_easier.data.toList.drop 46 = dktX0_easier_2 := dk_seg dksX0_easier_1 22 rfl rfl
theorem dX0_easier_0 : decode cX0_easier 0 = .ok (.aload_n 0, 1) := dk_42 (dk_at dksX0_easier_0 0 rfl rfl)
theorem dX0_easier_1 : decode cX0_easier 1 = .ok (.iload_n 1, 1) := dk_27 (dk_at dksX0_easier_0 1 rfl rfl)
theorem dX0_easier_2 : decode cX0_easier 2 = .ok (.iload_n 2, 1) := dk_28 (dk_at dksX0_easier_0 2 rfl rfl)
theorem dX0_easier_3 : decode cX0_easier 3 = .ok (.iconst 0, 1) := dk_3 (dk_at dksX0_easier_0 3 rfl rfl)
theorem dX0_easier_4 : decode cX0_easier 4 = .ok (.invokevirtual 177, 3) := dk_182 0 177 (dk_at dksX0_easier_0 4 rfl rfl)
theorem dX0_easier_7 : decode cX0_easier 7 = .ok (.ifCond .ne 5, 3) := dk_154 0 5 (dk_at dksX0_easier_0 7 rfl rfl)
theorem dX0_easier_10 : decode cX0_easier 10 = .ok (.iconst (-1), 1) := dk_2 (dk_at dksX0_easier_0 10 rfl rfl)
theorem dX0_easier_11 : decode cX0_easier 11 = .ok (.ireturn, 1) := dk_172 (dk_at dksX0_easier_0 11 rfl rfl)
theorem dX0_easier_12 : decode cX0_easier 12 = .ok (.aload_n 0, 1) := dk_42 (dk_at dksX0_easier_0 12 rfl rfl)
theorem dX0_easier_13 : decode cX0_easier 13 = .ok (.iload_n 1, 1) := dk_27 (dk_at dksX0_easier_0 13 rfl rfl)
theorem dX0_easier_14 : decode cX0_easier 14 = .ok (.iload_n 2, 1) := dk_28 (dk_at dksX0_easier_0 14 rfl rfl)
theorem dX0_easier_15 : decode cX0_easier 15 = .ok (.iconst 0, 1) := dk_3 (dk_at dksX0_easier_0 15 rfl rfl)
theorem dX0_easier_16 : decode cX0_easier 16 = .ok (.invokevirtual 271, 3) := dk_182 1 15 (dk_at dksX0_easier_0 16 rfl rfl)
theorem dX0_easier_19 : decode cX0_easier 19 = .ok (.istore_n 3, 1) := dk_62 (dk_at dksX0_easier_0 19 rfl rfl)
theorem dX0_easier_20 : decode cX0_easier 20 = .ok (.iconst 0, 1) := dk_3 (dk_at dksX0_easier_0 20 rfl rfl)
theorem dX0_easier_21 : decode cX0_easier 21 = .ok (.istore 4, 2) := dk_54 4 (dk_at dksX0_easier_0 21 rfl rfl)
theorem dX0_easier_23 : decode cX0_easier 23 = .ok (.iconst 0, 1) := dk_3 (dk_at dksX0_easier_0 23 rfl rfl)
theorem dX0_easier_24 : decode cX0_easier 24 = .ok (.istore 5, 2) := dk_54 5 (dk_at dksX0_easier_1 0 rfl rfl)
theorem dX0_easier_26 : decode cX0_easier 26 = .ok (.iload 5, 2) := dk_21 5 (dk_at dksX0_easier_1 2 rfl rfl)
theorem dX0_easier_28 : decode cX0_easier 28 = .ok (.aload_n 0, 1) := dk_42 (dk_at dksX0_easier_1 4 rfl rfl)
theorem dX0_easier_29 : decode cX0_easier 29 = .ok (.getfield 12, 3) := dk_180 0 12 (dk_at dksX0_easier_1 5 rfl rfl)
theorem dX0_easier_32 : decode cX0_easier 32 = .ok (.getfield 87, 3) := dk_180 0 87 (dk_at dksX0_easier_1 8 rfl rfl)
theorem dX0_easier_35 : decode cX0_easier 35 = .ok (.invokevirtual 68, 3) := dk_182 0 68 (dk_at dksX0_easier_1 11 rfl rfl)
theorem dX0_easier_38 : decode cX0_easier 38 = .ok (.if_icmp .ge 24, 3) := dk_162 0 24 (dk_at dksX0_easier_1 14 rfl rfl)
theorem dX0_easier_41 : decode cX0_easier 41 = .ok (.aload_n 0, 1) := dk_42 (dk_at dksX0_easier_1 17 rfl rfl)
theorem dX0_easier_42 : decode cX0_easier 42 = .ok (.iload_n 1, 1) := dk_27 (dk_at dksX0_easier_1 18 rfl rfl)
theorem dX0_easier_43 : decode cX0_easier 43 = .ok (.iload 5, 2) := dk_21 5 (dk_at dksX0_easier_1 19 rfl rfl)
theorem dX0_easier_45 : decode cX0_easier 45 = .ok (.iconst 0, 1) := dk_3 (dk_at dksX0_easier_1 21 rfl rfl)
theorem dX0_easier_46 : decode cX0_easier 46 = .ok (.invokevirtual 271, 3) := dk_182 1 15 (dk_at dksX0_easier_2 0 rfl rfl)
theorem dX0_easier_49 : decode cX0_easier 49 = .ok (.iload_n 3, 1) := dk_29 (dk_at dksX0_easier_2 3 rfl rfl)
theorem dX0_easier_50 : decode cX0_easier 50 = .ok (.if_icmp .le 6, 3) := dk_164 0 6 (dk_at dksX0_easier_2 4 rfl rfl)
theorem dX0_easier_53 : decode cX0_easier 53 = .ok (.iinc 4 1, 3) := dk_132 4 1 (dk_at dksX0_easier_2 7 rfl rfl)
theorem dX0_easier_56 : decode cX0_easier 56 = .ok (.iinc 5 1, 3) := dk_132 5 1 (dk_at dksX0_easier_2 10 rfl rfl)
theorem dX0_easier_59 : decode cX0_easier 59 = .ok (.goto (-33), 3) := dk_167 255 223 (dk_at dksX0_easier_2 13 rfl rfl)
theorem dX0_easier_62 : decode cX0_easier 62 = .ok (.iload 4, 2) := dk_21 4 (dk_at dksX0_easier_2 16 rfl rfl)
theorem dX0_easier_64 : decode cX0_easier 64 = .ok (.ireturn, 1) := dk_172 (dk_at dksX0_easier_2 18 rfl rfl)
abbrev cX0_seat : ByteArray := prog_1_method_37_code
def yX0_seat : MethodName := ⟨RX0, "seat", "(III)I"⟩
def dkwX0_seat_10 : List UInt8 := [108, 167, 0, 5, 21, 9, 172]
abbrev dktX0_seat_10 : List UInt8 := dkwX0_seat_10 ++ []
def dkwX0_seat_9 : List UInt8 := [180, 0, 12, 180, 1, 20, 112, 167, 0, 23, 29, 4, 160, 0, 16, 21, 8, 42, 180, 0, 12, 180, 1, 20]
abbrev dktX0_seat_9 : List UInt8 := dkwX0_seat_9 ++ dktX0_seat_10
def dkwX0_seat_8 : List UInt8 := [167, 255, 145, 25, 4, 21, 6, 181, 1, 18, 25, 4, 21, 7, 181, 1, 19, 29, 154, 0, 16, 21, 8, 42]
abbrev dktX0_seat_8 : List UInt8 := dkwX0_seat_8 ++ dktX0_seat_9
def dkwX0_seat_7 : List UInt8 := [182, 0, 84, 21, 11, 21, 9, 163, 0, 6, 167, 0, 11, 21, 11, 54, 9, 21, 10, 54, 8, 132, 10, 1]
abbrev dktX0_seat_7 : List UInt8 := dkwX0_seat_7 ++ dktX0_seat_8
def dkwX0_seat_6 : List UInt8 := [182, 1, 26, 154, 0, 6, 167, 0, 38, 42, 27, 28, 182, 1, 30, 54, 11, 42, 180, 0, 12, 25, 5]
abbrev dktX0_seat_6 : List UInt8 := dkwX0_seat_6 ++ dktX0_seat_7
def dkwX0_seat_5 : List UInt8 := [180, 0, 12, 180, 1, 20, 108, 181, 1, 19, 42, 180, 0, 12, 25, 4, 180, 1, 18, 25, 4, 180, 1, 19]
abbrev dktX0_seat_5 : List UInt8 := dkwX0_seat_5 ++ dktX0_seat_6
def dkwX0_seat_4 : List UInt8 := [104, 162, 0, 97, 25, 4, 21, 10, 42, 180, 0, 12, 180, 1, 20, 112, 181, 1, 18, 25, 4, 21, 10, 42]
abbrev dktX0_seat_4 : List UInt8 := dkwX0_seat_4 ++ dktX0_seat_5
def dkwX0_seat_3 : List UInt8 := [54, 8, 2, 54, 9, 3, 54, 10, 21, 10, 42, 180, 0, 12, 180, 1, 20, 42, 180, 0, 12, 180, 1, 23]
abbrev dktX0_seat_3 : List UInt8 := dkwX0_seat_3 ++ dktX0_seat_4
def dkwX0_seat_2 : List UInt8 := [180, 0, 12, 182, 0, 76, 58, 5, 25, 4, 180, 1, 18, 54, 6, 25, 4, 180, 1, 19, 54, 7, 2]
abbrev dktX0_seat_2 : List UInt8 := dkwX0_seat_2 ++ dktX0_seat_3
def dkwX0_seat_1 : List UInt8 := [154, 0, 5, 2, 172, 42, 180, 0, 12, 180, 0, 94, 27, 182, 0, 104, 192, 0, 107, 58, 4, 42]
abbrev dktX0_seat_1 : List UInt8 := dkwX0_seat_1 ++ dktX0_seat_2
def dkwX0_seat_0 : List UInt8 := [42, 27, 182, 0, 161, 153, 0, 22, 28, 4, 16, 10, 184, 0, 90, 153, 0, 12, 29, 3, 5, 184, 0, 90]
abbrev dktX0_seat_0 : List UInt8 := dkwX0_seat_0 ++ dktX0_seat_1
theorem dksX0_seat_0 : cX0_seat.data.toList.drop 0 = dktX0_seat_0 := by decide +kernel
theorem dksX0_seat_1 : cX0_seat.data.toList.drop 24 = dktX0_seat_1 := dk_seg dksX0_seat_0 24 rfl rfl
theorem dksX0_seat_2 : cX0_seat.data.toList.drop 46 = dktX0_seat_2 := dk_seg dksX0_seat_1 22 rfl rfl
theorem dksX0_seat_3 : cX0_seat.data.toList.drop 69 = dktX0_seat_3 := dk_seg dksX0_seat_2 23 rfl rfl
theorem dksX0_seat_4 : cX0_seat.data.toList.drop 93 = dktX0_seat_4 := dk_seg dksX0_seat_3 24 rfl rfl
theorem dksX0_seat_5 : cX0_seat.data.toList.drop 117 = dktX0_seat_5 := dk_seg dksX0_seat_4 24 rfl rfl
theorem dksX0_seat_6 : cX0_seat.data.toList.drop 141 = dktX0_seat_6 := dk_seg dksX0_seat_5 24 rfl rfl
theorem dksX0_seat_7 : cX0_seat.data.toList.drop 164 = dktX0_seat_7 := dk_seg dksX0_seat_6 23 rfl rfl
theorem dksX0_seat_8 : cX0_seat.data.toList.drop 188 = dktX0_seat_8 := dk_seg dksX0_seat_7 24 rfl rfl
theorem dksX0_seat_9 : cX0_seat.data.toList.drop 212 = dktX0_seat_9 := dk_seg dksX0_seat_8 24 rfl rfl
theorem dksX0_seat_10 : cX0_seat.data.toList.drop 236 = dktX0_seat_10 := dk_seg dksX0_seat_9 24 rfl rfl
theorem dX0_seat_0 : decode cX0_seat 0 = .ok (.aload_n 0, 1) := dk_42 (dk_at dksX0_seat_0 0 rfl rfl)
theorem dX0_seat_1 : decode cX0_seat 1 = .ok (.iload_n 1, 1) := dk_27 (dk_at dksX0_seat_0 1 rfl rfl)
theorem dX0_seat_2 : decode cX0_seat 2 = .ok (.invokevirtual 161, 3) := dk_182 0 161 (dk_at dksX0_seat_0 2 rfl rfl)
theorem dX0_seat_5 : decode cX0_seat 5 = .ok (.ifCond .eq 22, 3) := dk_153 0 22 (dk_at dksX0_seat_0 5 rfl rfl)
theorem dX0_seat_8 : decode cX0_seat 8 = .ok (.iload_n 2, 1) := dk_28 (dk_at dksX0_seat_0 8 rfl rfl)
theorem dX0_seat_9 : decode cX0_seat 9 = .ok (.iconst 1, 1) := dk_4 (dk_at dksX0_seat_0 9 rfl rfl)
theorem dX0_seat_10 : decode cX0_seat 10 = .ok (.bipush 10, 2) := dk_16 10 (dk_at dksX0_seat_0 10 rfl rfl)
theorem dX0_seat_12 : decode cX0_seat 12 = .ok (.invokestatic 90, 3) := dk_184 0 90 (dk_at dksX0_seat_0 12 rfl rfl)
theorem dX0_seat_15 : decode cX0_seat 15 = .ok (.ifCond .eq 12, 3) := dk_153 0 12 (dk_at dksX0_seat_0 15 rfl rfl)
theorem dX0_seat_18 : decode cX0_seat 18 = .ok (.iload_n 3, 1) := dk_29 (dk_at dksX0_seat_0 18 rfl rfl)
theorem dX0_seat_19 : decode cX0_seat 19 = .ok (.iconst 0, 1) := dk_3 (dk_at dksX0_seat_0 19 rfl rfl)
theorem dX0_seat_20 : decode cX0_seat 20 = .ok (.iconst 2, 1) := dk_5 (dk_at dksX0_seat_0 20 rfl rfl)
theorem dX0_seat_21 : decode cX0_seat 21 = .ok (.invokestatic 90, 3) := dk_184 0 90 (dk_at dksX0_seat_0 21 rfl rfl)
theorem dX0_seat_24 : decode cX0_seat 24 = .ok (.ifCond .ne 5, 3) := dk_154 0 5 (dk_at dksX0_seat_1 0 rfl rfl)
theorem dX0_seat_27 : decode cX0_seat 27 = .ok (.iconst (-1), 1) := dk_2 (dk_at dksX0_seat_1 3 rfl rfl)
theorem dX0_seat_28 : decode cX0_seat 28 = .ok (.ireturn, 1) := dk_172 (dk_at dksX0_seat_1 4 rfl rfl)
theorem dX0_seat_29 : decode cX0_seat 29 = .ok (.aload_n 0, 1) := dk_42 (dk_at dksX0_seat_1 5 rfl rfl)
theorem dX0_seat_30 : decode cX0_seat 30 = .ok (.getfield 12, 3) := dk_180 0 12 (dk_at dksX0_seat_1 6 rfl rfl)
theorem dX0_seat_33 : decode cX0_seat 33 = .ok (.getfield 94, 3) := dk_180 0 94 (dk_at dksX0_seat_1 9 rfl rfl)
theorem dX0_seat_36 : decode cX0_seat 36 = .ok (.iload_n 1, 1) := dk_27 (dk_at dksX0_seat_1 12 rfl rfl)
theorem dX0_seat_37 : decode cX0_seat 37 = .ok (.invokevirtual 104, 3) := dk_182 0 104 (dk_at dksX0_seat_1 13 rfl rfl)
theorem dX0_seat_40 : decode cX0_seat 40 = .ok (.checkcast 107, 3) := dk_192 0 107 (dk_at dksX0_seat_1 16 rfl rfl)
theorem dX0_seat_43 : decode cX0_seat 43 = .ok (.astore 4, 2) := dk_58 4 (dk_at dksX0_seat_1 19 rfl rfl)
theorem dX0_seat_45 : decode cX0_seat 45 = .ok (.aload_n 0, 1) := dk_42 (dk_at dksX0_seat_1 21 rfl rfl)
theorem dX0_seat_46 : decode cX0_seat 46 = .ok (.getfield 12, 3) := dk_180 0 12 (dk_at dksX0_seat_2 0 rfl rfl)
theorem dX0_seat_49 : decode cX0_seat 49 = .ok (.invokevirtual 76, 3) := dk_182 0 76 (dk_at dksX0_seat_2 3 rfl rfl)
theorem dX0_seat_52 : decode cX0_seat 52 = .ok (.astore 5, 2) := dk_58 5 (dk_at dksX0_seat_2 6 rfl rfl)
theorem dX0_seat_54 : decode cX0_seat 54 = .ok (.aload 4, 2) := dk_25 4 (dk_at dksX0_seat_2 8 rfl rfl)
theorem dX0_seat_56 : decode cX0_seat 56 = .ok (.getfield 274, 3) := dk_180 1 18 (dk_at dksX0_seat_2 10 rfl rfl)
theorem dX0_seat_59 : decode cX0_seat 59 = .ok (.istore 6, 2) := dk_54 6 (dk_at dksX0_seat_2 13 rfl rfl)
theorem dX0_seat_61 : decode cX0_seat 61 = .ok (.aload 4, 2) := dk_25 4 (dk_at dksX0_seat_2 15 rfl rfl)
theorem dX0_seat_63 : decode cX0_seat 63 = .ok (.getfield 275, 3) := dk_180 1 19 (dk_at dksX0_seat_2 17 rfl rfl)
theorem dX0_seat_66 : decode cX0_seat 66 = .ok (.istore 7, 2) := dk_54 7 (dk_at dksX0_seat_2 20 rfl rfl)
theorem dX0_seat_68 : decode cX0_seat 68 = .ok (.iconst (-1), 1) := dk_2 (dk_at dksX0_seat_2 22 rfl rfl)
theorem dX0_seat_69 : decode cX0_seat 69 = .ok (.istore 8, 2) := dk_54 8 (dk_at dksX0_seat_3 0 rfl rfl)
theorem dX0_seat_71 : decode cX0_seat 71 = .ok (.iconst (-1), 1) := dk_2 (dk_at dksX0_seat_3 2 rfl rfl)
theorem dX0_seat_72 : decode cX0_seat 72 = .ok (.istore 9, 2) := dk_54 9 (dk_at dksX0_seat_3 3 rfl rfl)
theorem dX0_seat_74 : decode cX0_seat 74 = .ok (.iconst 0, 1) := dk_3 (dk_at dksX0_seat_3 5 rfl rfl)
theorem dX0_seat_75 : decode cX0_seat 75 = .ok (.istore 10, 2) := dk_54 10 (dk_at dksX0_seat_3 6 rfl rfl)
theorem dX0_seat_77 : decode cX0_seat 77 = .ok (.iload 10, 2) := dk_21 10 (dk_at dksX0_seat_3 8 rfl rfl)
theorem dX0_seat_79 : decode cX0_seat 79 = .ok (.aload_n 0, 1) := dk_42 (dk_at dksX0_seat_3 10 rfl rfl)
theorem dX0_seat_80 : decode cX0_seat 80 = .ok (.getfield 12, 3) := dk_180 0 12 (dk_at dksX0_seat_3 11 rfl rfl)
theorem dX0_seat_83 : decode cX0_seat 83 = .ok (.getfield 276, 3) := dk_180 1 20 (dk_at dksX0_seat_3 14 rfl rfl)
theorem dX0_seat_86 : decode cX0_seat 86 = .ok (.aload_n 0, 1) := dk_42 (dk_at dksX0_seat_3 17 rfl rfl)
theorem dX0_seat_87 : decode cX0_seat 87 = .ok (.getfield 12, 3) := dk_180 0 12 (dk_at dksX0_seat_3 18 rfl rfl)
theorem dX0_seat_90 : decode cX0_seat 90 = .ok (.getfield 279, 3) := dk_180 1 23 (dk_at dksX0_seat_3 21 rfl rfl)
theorem dX0_seat_93 : decode cX0_seat 93 = .ok (.imul, 1) := dk_104 (dk_at dksX0_seat_4 0 rfl rfl)
theorem dX0_seat_94 : decode cX0_seat 94 = .ok (.if_icmp .ge 97, 3) := dk_162 0 97 (dk_at dksX0_seat_4 1 rfl rfl)
theorem dX0_seat_97 : decode cX0_seat 97 = .ok (.aload 4, 2) := dk_25 4 (dk_at dksX0_seat_4 4 rfl rfl)
theorem dX0_seat_99 : decode cX0_seat 99 = .ok (.iload 10, 2) := dk_21 10 (dk_at dksX0_seat_4 6 rfl rfl)
theorem dX0_seat_101 : decode cX0_seat 101 = .ok (.aload_n 0, 1) := dk_42 (dk_at dksX0_seat_4 8 rfl rfl)
theorem dX0_seat_102 : decode cX0_seat 102 = .ok (.getfield 12, 3) := dk_180 0 12 (dk_at dksX0_seat_4 9 rfl rfl)
theorem dX0_seat_105 : decode cX0_seat 105 = .ok (.getfield 276, 3) := dk_180 1 20 (dk_at dksX0_seat_4 12 rfl rfl)
theorem dX0_seat_108 : decode cX0_seat 108 = .ok (.irem, 1) := dk_112 (dk_at dksX0_seat_4 15 rfl rfl)
theorem dX0_seat_109 : decode cX0_seat 109 = .ok (.putfield 274, 3) := dk_181 1 18 (dk_at dksX0_seat_4 16 rfl rfl)
theorem dX0_seat_112 : decode cX0_seat 112 = .ok (.aload 4, 2) := dk_25 4 (dk_at dksX0_seat_4 19 rfl rfl)
theorem dX0_seat_114 : decode cX0_seat 114 = .ok (.iload 10, 2) := dk_21 10 (dk_at dksX0_seat_4 21 rfl rfl)
theorem dX0_seat_116 : decode cX0_seat 116 = .ok (.aload_n 0, 1) := dk_42 (dk_at dksX0_seat_4 23 rfl rfl)
theorem dX0_seat_117 : decode cX0_seat 117 = .ok (.getfield 12, 3) := dk_180 0 12 (dk_at dksX0_seat_5 0 rfl rfl)
theorem dX0_seat_120 : decode cX0_seat 120 = .ok (.getfield 276, 3) := dk_180 1 20 (dk_at dksX0_seat_5 3 rfl rfl)
theorem dX0_seat_123 : decode cX0_seat 123 = .ok (.idiv, 1) := dk_108 (dk_at dksX0_seat_5 6 rfl rfl)
theorem dX0_seat_124 : decode cX0_seat 124 = .ok (.putfield 275, 3) := dk_181 1 19 (dk_at dksX0_seat_5 7 rfl rfl)
theorem dX0_seat_127 : decode cX0_seat 127 = .ok (.aload_n 0, 1) := dk_42 (dk_at dksX0_seat_5 10 rfl rfl)
theorem dX0_seat_128 : decode cX0_seat 128 = .ok (.getfield 12, 3) := dk_180 0 12 (dk_at dksX0_seat_5 11 rfl rfl)
theorem dX0_seat_131 : decode cX0_seat 131 = .ok (.aload 4, 2) := dk_25 4 (dk_at dksX0_seat_5 14 rfl rfl)
theorem dX0_seat_133 : decode cX0_seat 133 = .ok (.getfield 274, 3) := dk_180 1 18 (dk_at dksX0_seat_5 16 rfl rfl)
theorem dX0_seat_136 : decode cX0_seat 136 = .ok (.aload 4, 2) := dk_25 4 (dk_at dksX0_seat_5 19 rfl rfl)
theorem dX0_seat_138 : decode cX0_seat 138 = .ok (.getfield 275, 3) := dk_180 1 19 (dk_at dksX0_seat_5 21 rfl rfl)
theorem dX0_seat_141 : decode cX0_seat 141 = .ok (.invokevirtual 282, 3) := dk_182 1 26 (dk_at dksX0_seat_6 0 rfl rfl)
theorem dX0_seat_144 : decode cX0_seat 144 = .ok (.ifCond .ne 6, 3) := dk_154 0 6 (dk_at dksX0_seat_6 3 rfl rfl)
theorem dX0_seat_147 : decode cX0_seat 147 = .ok (.goto 38, 3) := dk_167 0 38 (dk_at dksX0_seat_6 6 rfl rfl)
theorem dX0_seat_150 : decode cX0_seat 150 = .ok (.aload_n 0, 1) := dk_42 (dk_at dksX0_seat_6 9 rfl rfl)
theorem dX0_seat_151 : decode cX0_seat 151 = .ok (.iload_n 1, 1) := dk_27 (dk_at dksX0_seat_6 10 rfl rfl)
theorem dX0_seat_152 : decode cX0_seat 152 = .ok (.iload_n 2, 1) := dk_28 (dk_at dksX0_seat_6 11 rfl rfl)
theorem dX0_seat_153 : decode cX0_seat 153 = .ok (.invokevirtual 286, 3) := dk_182 1 30 (dk_at dksX0_seat_6 12 rfl rfl)
theorem dX0_seat_156 : decode cX0_seat 156 = .ok (.istore 11, 2) := dk_54 11 (dk_at dksX0_seat_6 15 rfl rfl)
theorem dX0_seat_158 : decode cX0_seat 158 = .ok (.aload_n 0, 1) := dk_42 (dk_at dksX0_seat_6 17 rfl rfl)
theorem dX0_seat_159 : decode cX0_seat 159 = .ok (.getfield 12, 3) := dk_180 0 12 (dk_at dksX0_seat_6 18 rfl rfl)
theorem dX0_seat_162 : decode cX0_seat 162 = .ok (.aload 5, 2) := dk_25 5 (dk_at dksX0_seat_6 21 rfl rfl)
theorem dX0_seat_164 : decode cX0_seat 164 = .ok (.invokevirtual 84, 3) := dk_182 0 84 (dk_at dksX0_seat_7 0 rfl rfl)
theorem dX0_seat_167 : decode cX0_seat 167 = .ok (.iload 11, 2) := dk_21 11 (dk_at dksX0_seat_7 3 rfl rfl)
theorem dX0_seat_169 : decode cX0_seat 169 = .ok (.iload 9, 2) := dk_21 9 (dk_at dksX0_seat_7 5 rfl rfl)
theorem dX0_seat_171 : decode cX0_seat 171 = .ok (.if_icmp .gt 6, 3) := dk_163 0 6 (dk_at dksX0_seat_7 7 rfl rfl)
theorem dX0_seat_174 : decode cX0_seat 174 = .ok (.goto 11, 3) := dk_167 0 11 (dk_at dksX0_seat_7 10 rfl rfl)
theorem dX0_seat_177 : decode cX0_seat 177 = .ok (.iload 11, 2) := dk_21 11 (dk_at dksX0_seat_7 13 rfl rfl)
theorem dX0_seat_179 : decode cX0_seat 179 = .ok (.istore 9, 2) := dk_54 9 (dk_at dksX0_seat_7 15 rfl rfl)
theorem dX0_seat_181 : decode cX0_seat 181 = .ok (.iload 10, 2) := dk_21 10 (dk_at dksX0_seat_7 17 rfl rfl)
theorem dX0_seat_183 : decode cX0_seat 183 = .ok (.istore 8, 2) := dk_54 8 (dk_at dksX0_seat_7 19 rfl rfl)
theorem dX0_seat_185 : decode cX0_seat 185 = .ok (.iinc 10 1, 3) := dk_132 10 1 (dk_at dksX0_seat_7 21 rfl rfl)
theorem dX0_seat_188 : decode cX0_seat 188 = .ok (.goto (-111), 3) := dk_167 255 145 (dk_at dksX0_seat_8 0 rfl rfl)
theorem dX0_seat_191 : decode cX0_seat 191 = .ok (.aload 4, 2) := dk_25 4 (dk_at dksX0_seat_8 3 rfl rfl)
theorem dX0_seat_193 : decode cX0_seat 193 = .ok (.iload 6, 2) := dk_21 6 (dk_at dksX0_seat_8 5 rfl rfl)
theorem dX0_seat_195 : decode cX0_seat 195 = .ok (.putfield 274, 3) := dk_181 1 18 (dk_at dksX0_seat_8 7 rfl rfl)
theorem dX0_seat_198 : decode cX0_seat 198 = .ok (.aload 4, 2) := dk_25 4 (dk_at dksX0_seat_8 10 rfl rfl)
theorem dX0_seat_200 : decode cX0_seat 200 = .ok (.iload 7, 2) := dk_21 7 (dk_at dksX0_seat_8 12 rfl rfl)
theorem dX0_seat_202 : decode cX0_seat 202 = .ok (.putfield 275, 3) := dk_181 1 19 (dk_at dksX0_seat_8 14 rfl rfl)
theorem dX0_seat_205 : decode cX0_seat 205 = .ok (.iload_n 3, 1) := dk_29 (dk_at dksX0_seat_8 17 rfl rfl)
theorem dX0_seat_206 : decode cX0_seat 206 = .ok (.ifCond .ne 16, 3) := dk_154 0 16 (dk_at dksX0_seat_8 18 rfl rfl)
theorem dX0_seat_209 : decode cX0_seat 209 = .ok (.iload 8, 2) := dk_21 8 (dk_at dksX0_seat_8 21 rfl rfl)
theorem dX0_seat_211 : decode cX0_seat 211 = .ok (.aload_n 0, 1) := dk_42 (dk_at dksX0_seat_8 23 rfl rfl)
theorem dX0_seat_212 : decode cX0_seat 212 = .ok (.getfield 12, 3) := dk_180 0 12 (dk_at dksX0_seat_9 0 rfl rfl)
theorem dX0_seat_215 : decode cX0_seat 215 = .ok (.getfield 276, 3) := dk_180 1 20 (dk_at dksX0_seat_9 3 rfl rfl)
theorem dX0_seat_218 : decode cX0_seat 218 = .ok (.irem, 1) := dk_112 (dk_at dksX0_seat_9 6 rfl rfl)
theorem dX0_seat_219 : decode cX0_seat 219 = .ok (.goto 23, 3) := dk_167 0 23 (dk_at dksX0_seat_9 7 rfl rfl)
theorem dX0_seat_222 : decode cX0_seat 222 = .ok (.iload_n 3, 1) := dk_29 (dk_at dksX0_seat_9 10 rfl rfl)
theorem dX0_seat_223 : decode cX0_seat 223 = .ok (.iconst 1, 1) := dk_4 (dk_at dksX0_seat_9 11 rfl rfl)
theorem dX0_seat_224 : decode cX0_seat 224 = .ok (.if_icmp .ne 16, 3) := dk_160 0 16 (dk_at dksX0_seat_9 12 rfl rfl)
theorem dX0_seat_227 : decode cX0_seat 227 = .ok (.iload 8, 2) := dk_21 8 (dk_at dksX0_seat_9 15 rfl rfl)
theorem dX0_seat_229 : decode cX0_seat 229 = .ok (.aload_n 0, 1) := dk_42 (dk_at dksX0_seat_9 17 rfl rfl)
theorem dX0_seat_230 : decode cX0_seat 230 = .ok (.getfield 12, 3) := dk_180 0 12 (dk_at dksX0_seat_9 18 rfl rfl)
theorem dX0_seat_233 : decode cX0_seat 233 = .ok (.getfield 276, 3) := dk_180 1 20 (dk_at dksX0_seat_9 21 rfl rfl)
theorem dX0_seat_236 : decode cX0_seat 236 = .ok (.idiv, 1) := dk_108 (dk_at dksX0_seat_10 0 rfl rfl)
theorem dX0_seat_237 : decode cX0_seat 237 = .ok (.goto 5, 3) := dk_167 0 5 (dk_at dksX0_seat_10 1 rfl rfl)
theorem dX0_seat_240 : decode cX0_seat 240 = .ok (.iload 9, 2) := dk_21 9 (dk_at dksX0_seat_10 4 rfl rfl)
theorem dX0_seat_242 : decode cX0_seat 242 = .ok (.ireturn, 1) := dk_172 (dk_at dksX0_seat_10 6 rfl rfl)
abbrev cX0_gets : ByteArray := prog_1_method_36_code
def yX0_gets : MethodName := ⟨RX0, "gets", "(II)I"⟩
def dkwX0_gets_1 : List UInt8 := [182, 0, 206, 153, 0, 7, 4, 167, 0, 4, 3, 96, 62, 132, 4, 1, 167, 255, 223, 29, 172]
abbrev dktX0_gets_1 : List UInt8 := dkwX0_gets_1 ++ []
def dkwX0_gets_0 : List UInt8 := [3, 62, 3, 54, 4, 21, 4, 28, 162, 0, 33, 29, 42, 180, 0, 12, 27, 42, 27, 182, 0, 184]
abbrev dktX0_gets_0 : List UInt8 := dkwX0_gets_0 ++ dktX0_gets_1
theorem dksX0_gets_0 : cX0_gets.data.toList.drop 0 = dktX0_gets_0 := by decide +kernel
theorem dksX0_gets_1 : cX0_gets.data.toList.drop 22 = dktX0_gets_1 := dk_seg dksX0_gets_0 22 rfl rfl
theorem dX0_gets_0 : decode cX0_gets 0 = .ok (.iconst 0, 1) := dk_3 (dk_at dksX0_gets_0 0 rfl rfl)
theorem dX0_gets_1 : decode cX0_gets 1 = .ok (.istore_n 3, 1) := dk_62 (dk_at dksX0_gets_0 1 rfl rfl)
theorem dX0_gets_2 : decode cX0_gets 2 = .ok (.iconst 0, 1) := dk_3 (dk_at dksX0_gets_0 2 rfl rfl)
theorem dX0_gets_3 : decode cX0_gets 3 = .ok (.istore 4, 2) := dk_54 4 (dk_at dksX0_gets_0 3 rfl rfl)
theorem dX0_gets_5 : decode cX0_gets 5 = .ok (.iload 4, 2) := dk_21 4 (dk_at dksX0_gets_0 5 rfl rfl)
theorem dX0_gets_7 : decode cX0_gets 7 = .ok (.iload_n 2, 1) := dk_28 (dk_at dksX0_gets_0 7 rfl rfl)
theorem dX0_gets_8 : decode cX0_gets 8 = .ok (.if_icmp .ge 33, 3) := dk_162 0 33 (dk_at dksX0_gets_0 8 rfl rfl)
theorem dX0_gets_11 : decode cX0_gets 11 = .ok (.iload_n 3, 1) := dk_29 (dk_at dksX0_gets_0 11 rfl rfl)
theorem dX0_gets_12 : decode cX0_gets 12 = .ok (.aload_n 0, 1) := dk_42 (dk_at dksX0_gets_0 12 rfl rfl)
theorem dX0_gets_13 : decode cX0_gets 13 = .ok (.getfield 12, 3) := dk_180 0 12 (dk_at dksX0_gets_0 13 rfl rfl)
theorem dX0_gets_16 : decode cX0_gets 16 = .ok (.iload_n 1, 1) := dk_27 (dk_at dksX0_gets_0 16 rfl rfl)
theorem dX0_gets_17 : decode cX0_gets 17 = .ok (.aload_n 0, 1) := dk_42 (dk_at dksX0_gets_0 17 rfl rfl)
theorem dX0_gets_18 : decode cX0_gets 18 = .ok (.iload_n 1, 1) := dk_27 (dk_at dksX0_gets_0 18 rfl rfl)
theorem dX0_gets_19 : decode cX0_gets 19 = .ok (.invokevirtual 184, 3) := dk_182 0 184 (dk_at dksX0_gets_0 19 rfl rfl)
theorem dX0_gets_22 : decode cX0_gets 22 = .ok (.invokevirtual 206, 3) := dk_182 0 206 (dk_at dksX0_gets_1 0 rfl rfl)
theorem dX0_gets_25 : decode cX0_gets 25 = .ok (.ifCond .eq 7, 3) := dk_153 0 7 (dk_at dksX0_gets_1 3 rfl rfl)
theorem dX0_gets_28 : decode cX0_gets 28 = .ok (.iconst 1, 1) := dk_4 (dk_at dksX0_gets_1 6 rfl rfl)
theorem dX0_gets_29 : decode cX0_gets 29 = .ok (.goto 4, 3) := dk_167 0 4 (dk_at dksX0_gets_1 7 rfl rfl)
theorem dX0_gets_32 : decode cX0_gets 32 = .ok (.iconst 0, 1) := dk_3 (dk_at dksX0_gets_1 10 rfl rfl)
theorem dX0_gets_33 : decode cX0_gets 33 = .ok (.iadd, 1) := dk_96 (dk_at dksX0_gets_1 11 rfl rfl)
theorem dX0_gets_34 : decode cX0_gets 34 = .ok (.istore_n 3, 1) := dk_62 (dk_at dksX0_gets_1 12 rfl rfl)
theorem dX0_gets_35 : decode cX0_gets 35 = .ok (.iinc 4 1, 3) := dk_132 4 1 (dk_at dksX0_gets_1 13 rfl rfl)
theorem dX0_gets_38 : decode cX0_gets 38 = .ok (.goto (-33), 3) := dk_167 255 223 (dk_at dksX0_gets_1 16 rfl rfl)
theorem dX0_gets_41 : decode cX0_gets 41 = .ok (.iload_n 3, 1) := dk_29 (dk_at dksX0_gets_1 19 rfl rfl)
theorem dX0_gets_42 : decode cX0_gets 42 = .ok (.ireturn, 1) := dk_172 (dk_at dksX0_gets_1 20 rfl rfl)
abbrev cX0_order : ByteArray := prog_1_method_39_code
def yX0_order : MethodName := ⟨RX0, "order", "(I)I"⟩
def dkwX0_order_1 : List UInt8 := [182, 1, 39, 61, 42, 42, 180, 0, 12, 180, 0, 94, 182, 0, 68, 181, 0, 62, 28, 172]
abbrev dktX0_order_1 : List UInt8 := dkwX0_order_1 ++ []
def dkwX0_order_0 : List UInt8 := [42, 3, 181, 0, 62, 27, 4, 16, 10, 184, 0, 90, 154, 0, 5, 2, 172, 42, 3, 3, 27, 2]
abbrev dktX0_order_0 : List UInt8 := dkwX0_order_0 ++ dktX0_order_1
theorem dksX0_order_0 : cX0_order.data.toList.drop 0 = dktX0_order_0 := by decide +kernel
theorem dksX0_order_1 : cX0_order.data.toList.drop 22 = dktX0_order_1 := dk_seg dksX0_order_0 22 rfl rfl
theorem dX0_order_0 : decode cX0_order 0 = .ok (.aload_n 0, 1) := dk_42 (dk_at dksX0_order_0 0 rfl rfl)
theorem dX0_order_1 : decode cX0_order 1 = .ok (.iconst 0, 1) := dk_3 (dk_at dksX0_order_0 1 rfl rfl)
theorem dX0_order_2 : decode cX0_order 2 = .ok (.putfield 62, 3) := dk_181 0 62 (dk_at dksX0_order_0 2 rfl rfl)
theorem dX0_order_5 : decode cX0_order 5 = .ok (.iload_n 1, 1) := dk_27 (dk_at dksX0_order_0 5 rfl rfl)
theorem dX0_order_6 : decode cX0_order 6 = .ok (.iconst 1, 1) := dk_4 (dk_at dksX0_order_0 6 rfl rfl)
theorem dX0_order_7 : decode cX0_order 7 = .ok (.bipush 10, 2) := dk_16 10 (dk_at dksX0_order_0 7 rfl rfl)
theorem dX0_order_9 : decode cX0_order 9 = .ok (.invokestatic 90, 3) := dk_184 0 90 (dk_at dksX0_order_0 9 rfl rfl)
theorem dX0_order_12 : decode cX0_order 12 = .ok (.ifCond .ne 5, 3) := dk_154 0 5 (dk_at dksX0_order_0 12 rfl rfl)
theorem dX0_order_15 : decode cX0_order 15 = .ok (.iconst (-1), 1) := dk_2 (dk_at dksX0_order_0 15 rfl rfl)
theorem dX0_order_16 : decode cX0_order 16 = .ok (.ireturn, 1) := dk_172 (dk_at dksX0_order_0 16 rfl rfl)
theorem dX0_order_17 : decode cX0_order 17 = .ok (.aload_n 0, 1) := dk_42 (dk_at dksX0_order_0 17 rfl rfl)
theorem dX0_order_18 : decode cX0_order 18 = .ok (.iconst 0, 1) := dk_3 (dk_at dksX0_order_0 18 rfl rfl)
theorem dX0_order_19 : decode cX0_order 19 = .ok (.iconst 0, 1) := dk_3 (dk_at dksX0_order_0 19 rfl rfl)
theorem dX0_order_20 : decode cX0_order 20 = .ok (.iload_n 1, 1) := dk_27 (dk_at dksX0_order_0 20 rfl rfl)
theorem dX0_order_21 : decode cX0_order 21 = .ok (.iconst (-1), 1) := dk_2 (dk_at dksX0_order_0 21 rfl rfl)
theorem dX0_order_22 : decode cX0_order 22 = .ok (.invokevirtual 295, 3) := dk_182 1 39 (dk_at dksX0_order_1 0 rfl rfl)
theorem dX0_order_25 : decode cX0_order 25 = .ok (.istore_n 2, 1) := dk_61 (dk_at dksX0_order_1 3 rfl rfl)
theorem dX0_order_26 : decode cX0_order 26 = .ok (.aload_n 0, 1) := dk_42 (dk_at dksX0_order_1 4 rfl rfl)
theorem dX0_order_27 : decode cX0_order 27 = .ok (.aload_n 0, 1) := dk_42 (dk_at dksX0_order_1 5 rfl rfl)
theorem dX0_order_28 : decode cX0_order 28 = .ok (.getfield 12, 3) := dk_180 0 12 (dk_at dksX0_order_1 6 rfl rfl)
theorem dX0_order_31 : decode cX0_order 31 = .ok (.getfield 94, 3) := dk_180 0 94 (dk_at dksX0_order_1 9 rfl rfl)
theorem dX0_order_34 : decode cX0_order 34 = .ok (.invokevirtual 68, 3) := dk_182 0 68 (dk_at dksX0_order_1 12 rfl rfl)
theorem dX0_order_37 : decode cX0_order 37 = .ok (.putfield 62, 3) := dk_181 0 62 (dk_at dksX0_order_1 15 rfl rfl)
theorem dX0_order_40 : decode cX0_order 40 = .ok (.iload_n 2, 1) := dk_28 (dk_at dksX0_order_1 18 rfl rfl)
theorem dX0_order_41 : decode cX0_order 41 = .ok (.ireturn, 1) := dk_172 (dk_at dksX0_order_1 19 rfl rfl)
abbrev cX0_orders : ByteArray := prog_1_method_38_code
def yX0_orders : MethodName := ⟨RX0, "orders", "(IIII)I"⟩
def dkwX0_orders_8 : List UInt8 := [29, 21, 5, 182, 1, 39, 54, 5, 132, 6, 1, 167, 255, 199, 21, 5, 172]
abbrev dktX0_orders_8 : List UInt8 := dkwX0_orders_8 ++ []
def dkwX0_orders_7 : List UInt8 := [160, 0, 6, 167, 0, 29, 42, 180, 0, 41, 27, 21, 6, 79, 42, 27, 4, 96, 28, 4, 21, 6, 120, 128]
abbrev dktX0_orders_7 : List UInt8 := dkwX0_orders_7 ++ dktX0_orders_8
def dkwX0_orders_6 : List UInt8 := [54, 6, 21, 6, 42, 180, 0, 12, 180, 0, 94, 182, 0, 68, 162, 0, 48, 28, 21, 6, 122, 4, 126, 4]
abbrev dktX0_orders_6 : List UInt8 := dkwX0_orders_6 ++ dktX0_orders_7
def dkwX0_orders_5 : List UInt8 := [172, 42, 180, 0, 41, 3, 42, 180, 0, 38, 3, 27, 184, 1, 33, 21, 5, 172, 21, 4, 54, 5, 3]
abbrev dktX0_orders_5 : List UInt8 := dkwX0_orders_5 ++ dktX0_orders_6
def dkwX0_orders_4 : List UInt8 := [167, 255, 194, 42, 180, 0, 12, 42, 180, 0, 34, 3, 182, 0, 237, 21, 5, 21, 4, 163, 0, 6, 21, 4]
abbrev dktX0_orders_4 : List UInt8 := dkwX0_orders_4 ++ dktX0_orders_5
def dkwX0_orders_3 : List UInt8 := [182, 0, 206, 153, 0, 7, 4, 167, 0, 4, 3, 96, 54, 5, 132, 7, 1, 167, 255, 209, 132, 6, 1]
abbrev dktX0_orders_3 : List UInt8 := dkwX0_orders_3 ++ dktX0_orders_4
def dkwX0_orders_2 : List UInt8 := [21, 5, 42, 180, 0, 12, 42, 180, 0, 41, 21, 7, 46, 42, 42, 180, 0, 41, 21, 7, 46, 182, 0, 184]
abbrev dktX0_orders_2 : List UInt8 := dkwX0_orders_2 ++ dktX0_orders_3
def dkwX0_orders_1 : List UInt8 := [182, 0, 217, 3, 54, 5, 3, 54, 6, 21, 6, 29, 162, 0, 62, 3, 54, 7, 21, 7, 27, 162, 0, 47]
abbrev dktX0_orders_1 : List UInt8 := dkwX0_orders_1 ++ dktX0_orders_2
def dkwX0_orders_0 : List UInt8 := [27, 42, 180, 0, 12, 180, 0, 94, 182, 0, 68, 160, 0, 125, 42, 180, 0, 12, 42, 180, 0, 34, 3]
abbrev dktX0_orders_0 : List UInt8 := dkwX0_orders_0 ++ dktX0_orders_1
theorem dksX0_orders_0 : cX0_orders.data.toList.drop 0 = dktX0_orders_0 := by decide +kernel
theorem dksX0_orders_1 : cX0_orders.data.toList.drop 23 = dktX0_orders_1 := dk_seg dksX0_orders_0 23 rfl rfl
theorem dksX0_orders_2 : cX0_orders.data.toList.drop 47 = dktX0_orders_2 := dk_seg dksX0_orders_1 24 rfl rfl
theorem dksX0_orders_3 : cX0_orders.data.toList.drop 71 = dktX0_orders_3 := dk_seg dksX0_orders_2 24 rfl rfl
theorem dksX0_orders_4 : cX0_orders.data.toList.drop 94 = dktX0_orders_4 := dk_seg dksX0_orders_3 23 rfl rfl
theorem dksX0_orders_5 : cX0_orders.data.toList.drop 118 = dktX0_orders_5 := dk_seg dksX0_orders_4 24 rfl rfl
theorem dksX0_orders_6 : cX0_orders.data.toList.drop 141 = dktX0_orders_6 := dk_seg dksX0_orders_5 23 rfl rfl
theorem dksX0_orders_7 : cX0_orders.data.toList.drop 165 = dktX0_orders_7 := dk_seg dksX0_orders_6 24 rfl rfl
theorem dksX0_orders_8 : cX0_orders.data.toList.drop 189 = dktX0_orders_8 := dk_seg dksX0_orders_7 24 rfl rfl
theorem dX0_orders_0 : decode cX0_orders 0 = .ok (.iload_n 1, 1) := dk_27 (dk_at dksX0_orders_0 0 rfl rfl)
theorem dX0_orders_1 : decode cX0_orders 1 = .ok (.aload_n 0, 1) := dk_42 (dk_at dksX0_orders_0 1 rfl rfl)
theorem dX0_orders_2 : decode cX0_orders 2 = .ok (.getfield 12, 3) := dk_180 0 12 (dk_at dksX0_orders_0 2 rfl rfl)
theorem dX0_orders_5 : decode cX0_orders 5 = .ok (.getfield 94, 3) := dk_180 0 94 (dk_at dksX0_orders_0 5 rfl rfl)
theorem dX0_orders_8 : decode cX0_orders 8 = .ok (.invokevirtual 68, 3) := dk_182 0 68 (dk_at dksX0_orders_0 8 rfl rfl)
theorem dX0_orders_11 : decode cX0_orders 11 = .ok (.if_icmp .ne 125, 3) := dk_160 0 125 (dk_at dksX0_orders_0 11 rfl rfl)
theorem dX0_orders_14 : decode cX0_orders 14 = .ok (.aload_n 0, 1) := dk_42 (dk_at dksX0_orders_0 14 rfl rfl)
theorem dX0_orders_15 : decode cX0_orders 15 = .ok (.getfield 12, 3) := dk_180 0 12 (dk_at dksX0_orders_0 15 rfl rfl)
theorem dX0_orders_18 : decode cX0_orders 18 = .ok (.aload_n 0, 1) := dk_42 (dk_at dksX0_orders_0 18 rfl rfl)
theorem dX0_orders_19 : decode cX0_orders 19 = .ok (.getfield 34, 3) := dk_180 0 34 (dk_at dksX0_orders_0 19 rfl rfl)
theorem dX0_orders_22 : decode cX0_orders 22 = .ok (.iconst 0, 1) := dk_3 (dk_at dksX0_orders_0 22 rfl rfl)
theorem dX0_orders_23 : decode cX0_orders 23 = .ok (.invokevirtual 217, 3) := dk_182 0 217 (dk_at dksX0_orders_1 0 rfl rfl)
theorem dX0_orders_26 : decode cX0_orders 26 = .ok (.iconst 0, 1) := dk_3 (dk_at dksX0_orders_1 3 rfl rfl)
theorem dX0_orders_27 : decode cX0_orders 27 = .ok (.istore 5, 2) := dk_54 5 (dk_at dksX0_orders_1 4 rfl rfl)
theorem dX0_orders_29 : decode cX0_orders 29 = .ok (.iconst 0, 1) := dk_3 (dk_at dksX0_orders_1 6 rfl rfl)
theorem dX0_orders_30 : decode cX0_orders 30 = .ok (.istore 6, 2) := dk_54 6 (dk_at dksX0_orders_1 7 rfl rfl)
theorem dX0_orders_32 : decode cX0_orders 32 = .ok (.iload 6, 2) := dk_21 6 (dk_at dksX0_orders_1 9 rfl rfl)
theorem dX0_orders_34 : decode cX0_orders 34 = .ok (.iload_n 3, 1) := dk_29 (dk_at dksX0_orders_1 11 rfl rfl)
theorem dX0_orders_35 : decode cX0_orders 35 = .ok (.if_icmp .ge 62, 3) := dk_162 0 62 (dk_at dksX0_orders_1 12 rfl rfl)
theorem dX0_orders_38 : decode cX0_orders 38 = .ok (.iconst 0, 1) := dk_3 (dk_at dksX0_orders_1 15 rfl rfl)
theorem dX0_orders_39 : decode cX0_orders 39 = .ok (.istore 7, 2) := dk_54 7 (dk_at dksX0_orders_1 16 rfl rfl)
theorem dX0_orders_41 : decode cX0_orders 41 = .ok (.iload 7, 2) := dk_21 7 (dk_at dksX0_orders_1 18 rfl rfl)
theorem dX0_orders_43 : decode cX0_orders 43 = .ok (.iload_n 1, 1) := dk_27 (dk_at dksX0_orders_1 20 rfl rfl)
theorem dX0_orders_44 : decode cX0_orders 44 = .ok (.if_icmp .ge 47, 3) := dk_162 0 47 (dk_at dksX0_orders_1 21 rfl rfl)
theorem dX0_orders_47 : decode cX0_orders 47 = .ok (.iload 5, 2) := dk_21 5 (dk_at dksX0_orders_2 0 rfl rfl)
theorem dX0_orders_49 : decode cX0_orders 49 = .ok (.aload_n 0, 1) := dk_42 (dk_at dksX0_orders_2 2 rfl rfl)
theorem dX0_orders_50 : decode cX0_orders 50 = .ok (.getfield 12, 3) := dk_180 0 12 (dk_at dksX0_orders_2 3 rfl rfl)
theorem dX0_orders_53 : decode cX0_orders 53 = .ok (.aload_n 0, 1) := dk_42 (dk_at dksX0_orders_2 6 rfl rfl)
theorem dX0_orders_54 : decode cX0_orders 54 = .ok (.getfield 41, 3) := dk_180 0 41 (dk_at dksX0_orders_2 7 rfl rfl)
theorem dX0_orders_57 : decode cX0_orders 57 = .ok (.iload 7, 2) := dk_21 7 (dk_at dksX0_orders_2 10 rfl rfl)
theorem dX0_orders_59 : decode cX0_orders 59 = .ok (.iaload, 1) := dk_46 (dk_at dksX0_orders_2 12 rfl rfl)
theorem dX0_orders_60 : decode cX0_orders 60 = .ok (.aload_n 0, 1) := dk_42 (dk_at dksX0_orders_2 13 rfl rfl)
theorem dX0_orders_61 : decode cX0_orders 61 = .ok (.aload_n 0, 1) := dk_42 (dk_at dksX0_orders_2 14 rfl rfl)
theorem dX0_orders_62 : decode cX0_orders 62 = .ok (.getfield 41, 3) := dk_180 0 41 (dk_at dksX0_orders_2 15 rfl rfl)
theorem dX0_orders_65 : decode cX0_orders 65 = .ok (.iload 7, 2) := dk_21 7 (dk_at dksX0_orders_2 18 rfl rfl)
theorem dX0_orders_67 : decode cX0_orders 67 = .ok (.iaload, 1) := dk_46 (dk_at dksX0_orders_2 20 rfl rfl)
theorem dX0_orders_68 : decode cX0_orders 68 = .ok (.invokevirtual 184, 3) := dk_182 0 184 (dk_at dksX0_orders_2 21 rfl rfl)
theorem dX0_orders_71 : decode cX0_orders 71 = .ok (.invokevirtual 206, 3) := dk_182 0 206 (dk_at dksX0_orders_3 0 rfl rfl)
theorem dX0_orders_74 : decode cX0_orders 74 = .ok (.ifCond .eq 7, 3) := dk_153 0 7 (dk_at dksX0_orders_3 3 rfl rfl)
theorem dX0_orders_77 : decode cX0_orders 77 = .ok (.iconst 1, 1) := dk_4 (dk_at dksX0_orders_3 6 rfl rfl)
theorem dX0_orders_78 : decode cX0_orders 78 = .ok (.goto 4, 3) := dk_167 0 4 (dk_at dksX0_orders_3 7 rfl rfl)
theorem dX0_orders_81 : decode cX0_orders 81 = .ok (.iconst 0, 1) := dk_3 (dk_at dksX0_orders_3 10 rfl rfl)
theorem dX0_orders_82 : decode cX0_orders 82 = .ok (.iadd, 1) := dk_96 (dk_at dksX0_orders_3 11 rfl rfl)
theorem dX0_orders_83 : decode cX0_orders 83 = .ok (.istore 5, 2) := dk_54 5 (dk_at dksX0_orders_3 12 rfl rfl)
theorem dX0_orders_85 : decode cX0_orders 85 = .ok (.iinc 7 1, 3) := dk_132 7 1 (dk_at dksX0_orders_3 14 rfl rfl)
theorem dX0_orders_88 : decode cX0_orders 88 = .ok (.goto (-47), 3) := dk_167 255 209 (dk_at dksX0_orders_3 17 rfl rfl)
theorem dX0_orders_91 : decode cX0_orders 91 = .ok (.iinc 6 1, 3) := dk_132 6 1 (dk_at dksX0_orders_3 20 rfl rfl)
theorem dX0_orders_94 : decode cX0_orders 94 = .ok (.goto (-62), 3) := dk_167 255 194 (dk_at dksX0_orders_4 0 rfl rfl)
theorem dX0_orders_97 : decode cX0_orders 97 = .ok (.aload_n 0, 1) := dk_42 (dk_at dksX0_orders_4 3 rfl rfl)
theorem dX0_orders_98 : decode cX0_orders 98 = .ok (.getfield 12, 3) := dk_180 0 12 (dk_at dksX0_orders_4 4 rfl rfl)
theorem dX0_orders_101 : decode cX0_orders 101 = .ok (.aload_n 0, 1) := dk_42 (dk_at dksX0_orders_4 7 rfl rfl)
theorem dX0_orders_102 : decode cX0_orders 102 = .ok (.getfield 34, 3) := dk_180 0 34 (dk_at dksX0_orders_4 8 rfl rfl)
theorem dX0_orders_105 : decode cX0_orders 105 = .ok (.iconst 0, 1) := dk_3 (dk_at dksX0_orders_4 11 rfl rfl)
theorem dX0_orders_106 : decode cX0_orders 106 = .ok (.invokevirtual 237, 3) := dk_182 0 237 (dk_at dksX0_orders_4 12 rfl rfl)
theorem dX0_orders_109 : decode cX0_orders 109 = .ok (.iload 5, 2) := dk_21 5 (dk_at dksX0_orders_4 15 rfl rfl)
theorem dX0_orders_111 : decode cX0_orders 111 = .ok (.iload 4, 2) := dk_21 4 (dk_at dksX0_orders_4 17 rfl rfl)
theorem dX0_orders_113 : decode cX0_orders 113 = .ok (.if_icmp .gt 6, 3) := dk_163 0 6 (dk_at dksX0_orders_4 19 rfl rfl)
theorem dX0_orders_116 : decode cX0_orders 116 = .ok (.iload 4, 2) := dk_21 4 (dk_at dksX0_orders_4 22 rfl rfl)
theorem dX0_orders_118 : decode cX0_orders 118 = .ok (.ireturn, 1) := dk_172 (dk_at dksX0_orders_5 0 rfl rfl)
theorem dX0_orders_119 : decode cX0_orders 119 = .ok (.aload_n 0, 1) := dk_42 (dk_at dksX0_orders_5 1 rfl rfl)
theorem dX0_orders_120 : decode cX0_orders 120 = .ok (.getfield 41, 3) := dk_180 0 41 (dk_at dksX0_orders_5 2 rfl rfl)
theorem dX0_orders_123 : decode cX0_orders 123 = .ok (.iconst 0, 1) := dk_3 (dk_at dksX0_orders_5 5 rfl rfl)
theorem dX0_orders_124 : decode cX0_orders 124 = .ok (.aload_n 0, 1) := dk_42 (dk_at dksX0_orders_5 6 rfl rfl)
theorem dX0_orders_125 : decode cX0_orders 125 = .ok (.getfield 38, 3) := dk_180 0 38 (dk_at dksX0_orders_5 7 rfl rfl)
theorem dX0_orders_128 : decode cX0_orders 128 = .ok (.iconst 0, 1) := dk_3 (dk_at dksX0_orders_5 10 rfl rfl)
theorem dX0_orders_129 : decode cX0_orders 129 = .ok (.iload_n 1, 1) := dk_27 (dk_at dksX0_orders_5 11 rfl rfl)
theorem dX0_orders_130 : decode cX0_orders 130 = .ok (.invokestatic 289, 3) := dk_184 1 33 (dk_at dksX0_orders_5 12 rfl rfl)
theorem dX0_orders_133 : decode cX0_orders 133 = .ok (.iload 5, 2) := dk_21 5 (dk_at dksX0_orders_5 15 rfl rfl)
theorem dX0_orders_135 : decode cX0_orders 135 = .ok (.ireturn, 1) := dk_172 (dk_at dksX0_orders_5 17 rfl rfl)
theorem dX0_orders_136 : decode cX0_orders 136 = .ok (.iload 4, 2) := dk_21 4 (dk_at dksX0_orders_5 18 rfl rfl)
theorem dX0_orders_138 : decode cX0_orders 138 = .ok (.istore 5, 2) := dk_54 5 (dk_at dksX0_orders_5 20 rfl rfl)
theorem dX0_orders_140 : decode cX0_orders 140 = .ok (.iconst 0, 1) := dk_3 (dk_at dksX0_orders_5 22 rfl rfl)
theorem dX0_orders_141 : decode cX0_orders 141 = .ok (.istore 6, 2) := dk_54 6 (dk_at dksX0_orders_6 0 rfl rfl)
theorem dX0_orders_143 : decode cX0_orders 143 = .ok (.iload 6, 2) := dk_21 6 (dk_at dksX0_orders_6 2 rfl rfl)
theorem dX0_orders_145 : decode cX0_orders 145 = .ok (.aload_n 0, 1) := dk_42 (dk_at dksX0_orders_6 4 rfl rfl)
theorem dX0_orders_146 : decode cX0_orders 146 = .ok (.getfield 12, 3) := dk_180 0 12 (dk_at dksX0_orders_6 5 rfl rfl)
theorem dX0_orders_149 : decode cX0_orders 149 = .ok (.getfield 94, 3) := dk_180 0 94 (dk_at dksX0_orders_6 8 rfl rfl)
theorem dX0_orders_152 : decode cX0_orders 152 = .ok (.invokevirtual 68, 3) := dk_182 0 68 (dk_at dksX0_orders_6 11 rfl rfl)
theorem dX0_orders_155 : decode cX0_orders 155 = .ok (.if_icmp .ge 48, 3) := dk_162 0 48 (dk_at dksX0_orders_6 14 rfl rfl)
theorem dX0_orders_158 : decode cX0_orders 158 = .ok (.iload_n 2, 1) := dk_28 (dk_at dksX0_orders_6 17 rfl rfl)
theorem dX0_orders_159 : decode cX0_orders 159 = .ok (.iload 6, 2) := dk_21 6 (dk_at dksX0_orders_6 18 rfl rfl)
theorem dX0_orders_161 : decode cX0_orders 161 = .ok (.ishr, 1) := dk_122 (dk_at dksX0_orders_6 20 rfl rfl)
theorem dX0_orders_162 : decode cX0_orders 162 = .ok (.iconst 1, 1) := dk_4 (dk_at dksX0_orders_6 21 rfl rfl)
theorem dX0_orders_163 : decode cX0_orders 163 = .ok (.iand, 1) := dk_126 (dk_at dksX0_orders_6 22 rfl rfl)
theorem dX0_orders_164 : decode cX0_orders 164 = .ok (.iconst 1, 1) := dk_4 (dk_at dksX0_orders_6 23 rfl rfl)
theorem dX0_orders_165 : decode cX0_orders 165 = .ok (.if_icmp .ne 6, 3) := dk_160 0 6 (dk_at dksX0_orders_7 0 rfl rfl)
theorem dX0_orders_168 : decode cX0_orders 168 = .ok (.goto 29, 3) := dk_167 0 29 (dk_at dksX0_orders_7 3 rfl rfl)
theorem dX0_orders_171 : decode cX0_orders 171 = .ok (.aload_n 0, 1) := dk_42 (dk_at dksX0_orders_7 6 rfl rfl)
theorem dX0_orders_172 : decode cX0_orders 172 = .ok (.getfield 41, 3) := dk_180 0 41 (dk_at dksX0_orders_7 7 rfl rfl)
theorem dX0_orders_175 : decode cX0_orders 175 = .ok (.iload_n 1, 1) := dk_27 (dk_at dksX0_orders_7 10 rfl rfl)
theorem dX0_orders_176 : decode cX0_orders 176 = .ok (.iload 6, 2) := dk_21 6 (dk_at dksX0_orders_7 11 rfl rfl)
theorem dX0_orders_178 : decode cX0_orders 178 = .ok (.iastore, 1) := dk_79 (dk_at dksX0_orders_7 13 rfl rfl)
theorem dX0_orders_179 : decode cX0_orders 179 = .ok (.aload_n 0, 1) := dk_42 (dk_at dksX0_orders_7 14 rfl rfl)
theorem dX0_orders_180 : decode cX0_orders 180 = .ok (.iload_n 1, 1) := dk_27 (dk_at dksX0_orders_7 15 rfl rfl)
theorem dX0_orders_181 : decode cX0_orders 181 = .ok (.iconst 1, 1) := dk_4 (dk_at dksX0_orders_7 16 rfl rfl)
theorem dX0_orders_182 : decode cX0_orders 182 = .ok (.iadd, 1) := dk_96 (dk_at dksX0_orders_7 17 rfl rfl)
theorem dX0_orders_183 : decode cX0_orders 183 = .ok (.iload_n 2, 1) := dk_28 (dk_at dksX0_orders_7 18 rfl rfl)
theorem dX0_orders_184 : decode cX0_orders 184 = .ok (.iconst 1, 1) := dk_4 (dk_at dksX0_orders_7 19 rfl rfl)
theorem dX0_orders_185 : decode cX0_orders 185 = .ok (.iload 6, 2) := dk_21 6 (dk_at dksX0_orders_7 20 rfl rfl)
theorem dX0_orders_187 : decode cX0_orders 187 = .ok (.ishl, 1) := dk_120 (dk_at dksX0_orders_7 22 rfl rfl)
theorem dX0_orders_188 : decode cX0_orders 188 = .ok (.ior, 1) := dk_128 (dk_at dksX0_orders_7 23 rfl rfl)
theorem dX0_orders_189 : decode cX0_orders 189 = .ok (.iload_n 3, 1) := dk_29 (dk_at dksX0_orders_8 0 rfl rfl)
theorem dX0_orders_190 : decode cX0_orders 190 = .ok (.iload 5, 2) := dk_21 5 (dk_at dksX0_orders_8 1 rfl rfl)
theorem dX0_orders_192 : decode cX0_orders 192 = .ok (.invokevirtual 295, 3) := dk_182 1 39 (dk_at dksX0_orders_8 3 rfl rfl)
theorem dX0_orders_195 : decode cX0_orders 195 = .ok (.istore 5, 2) := dk_54 5 (dk_at dksX0_orders_8 6 rfl rfl)
theorem dX0_orders_197 : decode cX0_orders 197 = .ok (.iinc 6 1, 3) := dk_132 6 1 (dk_at dksX0_orders_8 8 rfl rfl)
theorem dX0_orders_200 : decode cX0_orders 200 = .ok (.goto (-57), 3) := dk_167 255 199 (dk_at dksX0_orders_8 11 rfl rfl)
theorem dX0_orders_203 : decode cX0_orders 203 = .ok (.iload 5, 2) := dk_21 5 (dk_at dksX0_orders_8 14 rfl rfl)
theorem dX0_orders_205 : decode cX0_orders 205 = .ok (.ireturn, 1) := dk_172 (dk_at dksX0_orders_8 16 rfl rfl)
abbrev cX0_drives : ByteArray := prog_1_method_41_code
def yX0_drives : MethodName := ⟨RX0, "drives", "(III)I"⟩
def dkwX0_drives_5 : List UInt8 := [154, 0, 6, 167, 0, 12, 42, 21, 4, 181, 0, 62, 21, 4, 172, 132, 4, 1, 167, 255, 183, 2, 172]
abbrev dktX0_drives_5 : List UInt8 := dkwX0_drives_5 ++ []
def dkwX0_drives_4 : List UInt8 := [192, 0, 107, 42, 180, 0, 12, 180, 0, 87, 29, 182, 0, 104, 192, 0, 145, 3, 21, 4, 182, 1, 43]
abbrev dktX0_drives_4 : List UInt8 := dkwX0_drives_4 ++ dktX0_drives_5
def dkwX0_drives_3 : List UInt8 := [180, 0, 12, 180, 0, 94, 27, 182, 0, 104, 192, 0, 107, 42, 180, 0, 12, 180, 0, 94, 28, 182, 0, 104]
abbrev dktX0_drives_3 : List UInt8 := dkwX0_drives_3 ++ dktX0_drives_4
def dkwX0_drives_2 : List UInt8 := [192, 0, 145, 180, 0, 153, 2, 159, 0, 6, 16, 254, 172, 3, 54, 4, 21, 4, 7, 163, 0, 73, 42, 42]
abbrev dktX0_drives_2 : List UInt8 := dkwX0_drives_2 ++ dktX0_drives_3
def dkwX0_drives_1 : List UInt8 := [159, 0, 32, 42, 29, 182, 0, 141, 153, 0, 24, 42, 180, 0, 12, 180, 0, 87, 29, 182, 0, 104]
abbrev dktX0_drives_1 : List UInt8 := dkwX0_drives_1 ++ dktX0_drives_2
def dkwX0_drives_0 : List UInt8 := [42, 3, 181, 0, 62, 42, 27, 182, 0, 161, 153, 0, 45, 42, 28, 182, 0, 161, 153, 0, 37, 27, 28]
abbrev dktX0_drives_0 : List UInt8 := dkwX0_drives_0 ++ dktX0_drives_1
theorem dksX0_drives_0 : cX0_drives.data.toList.drop 0 = dktX0_drives_0 := by decide +kernel
theorem dksX0_drives_1 : cX0_drives.data.toList.drop 23 = dktX0_drives_1 := dk_seg dksX0_drives_0 23 rfl rfl
theorem dksX0_drives_2 : cX0_drives.data.toList.drop 45 = dktX0_drives_2 := dk_seg dksX0_drives_1 22 rfl rfl
theorem dksX0_drives_3 : cX0_drives.data.toList.drop 69 = dktX0_drives_3 := dk_seg dksX0_drives_2 24 rfl rfl
theorem dksX0_drives_4 : cX0_drives.data.toList.drop 93 = dktX0_drives_4 := dk_seg dksX0_drives_3 24 rfl rfl
theorem dksX0_drives_5 : cX0_drives.data.toList.drop 116 = dktX0_drives_5 := dk_seg dksX0_drives_4 23 rfl rfl
theorem dX0_drives_0 : decode cX0_drives 0 = .ok (.aload_n 0, 1) := dk_42 (dk_at dksX0_drives_0 0 rfl rfl)
theorem dX0_drives_1 : decode cX0_drives 1 = .ok (.iconst 0, 1) := dk_3 (dk_at dksX0_drives_0 1 rfl rfl)
theorem dX0_drives_2 : decode cX0_drives 2 = .ok (.putfield 62, 3) := dk_181 0 62 (dk_at dksX0_drives_0 2 rfl rfl)
theorem dX0_drives_5 : decode cX0_drives 5 = .ok (.aload_n 0, 1) := dk_42 (dk_at dksX0_drives_0 5 rfl rfl)
theorem dX0_drives_6 : decode cX0_drives 6 = .ok (.iload_n 1, 1) := dk_27 (dk_at dksX0_drives_0 6 rfl rfl)
theorem dX0_drives_7 : decode cX0_drives 7 = .ok (.invokevirtual 161, 3) := dk_182 0 161 (dk_at dksX0_drives_0 7 rfl rfl)
theorem dX0_drives_10 : decode cX0_drives 10 = .ok (.ifCond .eq 45, 3) := dk_153 0 45 (dk_at dksX0_drives_0 10 rfl rfl)
theorem dX0_drives_13 : decode cX0_drives 13 = .ok (.aload_n 0, 1) := dk_42 (dk_at dksX0_drives_0 13 rfl rfl)
theorem dX0_drives_14 : decode cX0_drives 14 = .ok (.iload_n 2, 1) := dk_28 (dk_at dksX0_drives_0 14 rfl rfl)
theorem dX0_drives_15 : decode cX0_drives 15 = .ok (.invokevirtual 161, 3) := dk_182 0 161 (dk_at dksX0_drives_0 15 rfl rfl)
theorem dX0_drives_18 : decode cX0_drives 18 = .ok (.ifCond .eq 37, 3) := dk_153 0 37 (dk_at dksX0_drives_0 18 rfl rfl)
theorem dX0_drives_21 : decode cX0_drives 21 = .ok (.iload_n 1, 1) := dk_27 (dk_at dksX0_drives_0 21 rfl rfl)
theorem dX0_drives_22 : decode cX0_drives 22 = .ok (.iload_n 2, 1) := dk_28 (dk_at dksX0_drives_0 22 rfl rfl)
theorem dX0_drives_23 : decode cX0_drives 23 = .ok (.if_icmp .eq 32, 3) := dk_159 0 32 (dk_at dksX0_drives_1 0 rfl rfl)
theorem dX0_drives_26 : decode cX0_drives 26 = .ok (.aload_n 0, 1) := dk_42 (dk_at dksX0_drives_1 3 rfl rfl)
theorem dX0_drives_27 : decode cX0_drives 27 = .ok (.iload_n 3, 1) := dk_29 (dk_at dksX0_drives_1 4 rfl rfl)
theorem dX0_drives_28 : decode cX0_drives 28 = .ok (.invokevirtual 141, 3) := dk_182 0 141 (dk_at dksX0_drives_1 5 rfl rfl)
theorem dX0_drives_31 : decode cX0_drives 31 = .ok (.ifCond .eq 24, 3) := dk_153 0 24 (dk_at dksX0_drives_1 8 rfl rfl)
theorem dX0_drives_34 : decode cX0_drives 34 = .ok (.aload_n 0, 1) := dk_42 (dk_at dksX0_drives_1 11 rfl rfl)
theorem dX0_drives_35 : decode cX0_drives 35 = .ok (.getfield 12, 3) := dk_180 0 12 (dk_at dksX0_drives_1 12 rfl rfl)
theorem dX0_drives_38 : decode cX0_drives 38 = .ok (.getfield 87, 3) := dk_180 0 87 (dk_at dksX0_drives_1 15 rfl rfl)
theorem dX0_drives_41 : decode cX0_drives 41 = .ok (.iload_n 3, 1) := dk_29 (dk_at dksX0_drives_1 18 rfl rfl)
theorem dX0_drives_42 : decode cX0_drives 42 = .ok (.invokevirtual 104, 3) := dk_182 0 104 (dk_at dksX0_drives_1 19 rfl rfl)
theorem dX0_drives_45 : decode cX0_drives 45 = .ok (.checkcast 145, 3) := dk_192 0 145 (dk_at dksX0_drives_2 0 rfl rfl)
theorem dX0_drives_48 : decode cX0_drives 48 = .ok (.getfield 153, 3) := dk_180 0 153 (dk_at dksX0_drives_2 3 rfl rfl)
theorem dX0_drives_51 : decode cX0_drives 51 = .ok (.iconst (-1), 1) := dk_2 (dk_at dksX0_drives_2 6 rfl rfl)
theorem dX0_drives_52 : decode cX0_drives 52 = .ok (.if_icmp .eq 6, 3) := dk_159 0 6 (dk_at dksX0_drives_2 7 rfl rfl)
theorem dX0_drives_55 : decode cX0_drives 55 = .ok (.bipush (-2), 2) := dk_16 254 (dk_at dksX0_drives_2 10 rfl rfl)
theorem dX0_drives_57 : decode cX0_drives 57 = .ok (.ireturn, 1) := dk_172 (dk_at dksX0_drives_2 12 rfl rfl)
theorem dX0_drives_58 : decode cX0_drives 58 = .ok (.iconst 0, 1) := dk_3 (dk_at dksX0_drives_2 13 rfl rfl)
theorem dX0_drives_59 : decode cX0_drives 59 = .ok (.istore 4, 2) := dk_54 4 (dk_at dksX0_drives_2 14 rfl rfl)
theorem dX0_drives_61 : decode cX0_drives 61 = .ok (.iload 4, 2) := dk_21 4 (dk_at dksX0_drives_2 16 rfl rfl)
theorem dX0_drives_63 : decode cX0_drives 63 = .ok (.iconst 4, 1) := dk_7 (dk_at dksX0_drives_2 18 rfl rfl)
theorem dX0_drives_64 : decode cX0_drives 64 = .ok (.if_icmp .gt 73, 3) := dk_163 0 73 (dk_at dksX0_drives_2 19 rfl rfl)
theorem dX0_drives_67 : decode cX0_drives 67 = .ok (.aload_n 0, 1) := dk_42 (dk_at dksX0_drives_2 22 rfl rfl)
theorem dX0_drives_68 : decode cX0_drives 68 = .ok (.aload_n 0, 1) := dk_42 (dk_at dksX0_drives_2 23 rfl rfl)
theorem dX0_drives_69 : decode cX0_drives 69 = .ok (.getfield 12, 3) := dk_180 0 12 (dk_at dksX0_drives_3 0 rfl rfl)
theorem dX0_drives_72 : decode cX0_drives 72 = .ok (.getfield 94, 3) := dk_180 0 94 (dk_at dksX0_drives_3 3 rfl rfl)
theorem dX0_drives_75 : decode cX0_drives 75 = .ok (.iload_n 1, 1) := dk_27 (dk_at dksX0_drives_3 6 rfl rfl)
theorem dX0_drives_76 : decode cX0_drives 76 = .ok (.invokevirtual 104, 3) := dk_182 0 104 (dk_at dksX0_drives_3 7 rfl rfl)
theorem dX0_drives_79 : decode cX0_drives 79 = .ok (.checkcast 107, 3) := dk_192 0 107 (dk_at dksX0_drives_3 10 rfl rfl)
theorem dX0_drives_82 : decode cX0_drives 82 = .ok (.aload_n 0, 1) := dk_42 (dk_at dksX0_drives_3 13 rfl rfl)
theorem dX0_drives_83 : decode cX0_drives 83 = .ok (.getfield 12, 3) := dk_180 0 12 (dk_at dksX0_drives_3 14 rfl rfl)
theorem dX0_drives_86 : decode cX0_drives 86 = .ok (.getfield 94, 3) := dk_180 0 94 (dk_at dksX0_drives_3 17 rfl rfl)
theorem dX0_drives_89 : decode cX0_drives 89 = .ok (.iload_n 2, 1) := dk_28 (dk_at dksX0_drives_3 20 rfl rfl)
theorem dX0_drives_90 : decode cX0_drives 90 = .ok (.invokevirtual 104, 3) := dk_182 0 104 (dk_at dksX0_drives_3 21 rfl rfl)
theorem dX0_drives_93 : decode cX0_drives 93 = .ok (.checkcast 107, 3) := dk_192 0 107 (dk_at dksX0_drives_4 0 rfl rfl)
theorem dX0_drives_96 : decode cX0_drives 96 = .ok (.aload_n 0, 1) := dk_42 (dk_at dksX0_drives_4 3 rfl rfl)
theorem dX0_drives_97 : decode cX0_drives 97 = .ok (.getfield 12, 3) := dk_180 0 12 (dk_at dksX0_drives_4 4 rfl rfl)
theorem dX0_drives_100 : decode cX0_drives 100 = .ok (.getfield 87, 3) := dk_180 0 87 (dk_at dksX0_drives_4 7 rfl rfl)
theorem dX0_drives_103 : decode cX0_drives 103 = .ok (.iload_n 3, 1) := dk_29 (dk_at dksX0_drives_4 10 rfl rfl)
theorem dX0_drives_104 : decode cX0_drives 104 = .ok (.invokevirtual 104, 3) := dk_182 0 104 (dk_at dksX0_drives_4 11 rfl rfl)
theorem dX0_drives_107 : decode cX0_drives 107 = .ok (.checkcast 145, 3) := dk_192 0 145 (dk_at dksX0_drives_4 14 rfl rfl)
theorem dX0_drives_110 : decode cX0_drives 110 = .ok (.iconst 0, 1) := dk_3 (dk_at dksX0_drives_4 17 rfl rfl)
theorem dX0_drives_111 : decode cX0_drives 111 = .ok (.iload 4, 2) := dk_21 4 (dk_at dksX0_drives_4 18 rfl rfl)
theorem dX0_drives_113 : decode cX0_drives 113 = .ok (.invokevirtual 299, 3) := dk_182 1 43 (dk_at dksX0_drives_4 20 rfl rfl)
theorem dX0_drives_116 : decode cX0_drives 116 = .ok (.ifCond .ne 6, 3) := dk_154 0 6 (dk_at dksX0_drives_5 0 rfl rfl)
theorem dX0_drives_119 : decode cX0_drives 119 = .ok (.goto 12, 3) := dk_167 0 12 (dk_at dksX0_drives_5 3 rfl rfl)
theorem dX0_drives_122 : decode cX0_drives 122 = .ok (.aload_n 0, 1) := dk_42 (dk_at dksX0_drives_5 6 rfl rfl)
theorem dX0_drives_123 : decode cX0_drives 123 = .ok (.iload 4, 2) := dk_21 4 (dk_at dksX0_drives_5 7 rfl rfl)
theorem dX0_drives_125 : decode cX0_drives 125 = .ok (.putfield 62, 3) := dk_181 0 62 (dk_at dksX0_drives_5 9 rfl rfl)
theorem dX0_drives_128 : decode cX0_drives 128 = .ok (.iload 4, 2) := dk_21 4 (dk_at dksX0_drives_5 12 rfl rfl)
theorem dX0_drives_130 : decode cX0_drives 130 = .ok (.ireturn, 1) := dk_172 (dk_at dksX0_drives_5 14 rfl rfl)
theorem dX0_drives_131 : decode cX0_drives 131 = .ok (.iinc 4 1, 3) := dk_132 4 1 (dk_at dksX0_drives_5 15 rfl rfl)
theorem dX0_drives_134 : decode cX0_drives 134 = .ok (.goto (-73), 3) := dk_167 255 183 (dk_at dksX0_drives_5 18 rfl rfl)
theorem dX0_drives_137 : decode cX0_drives 137 = .ok (.iconst (-1), 1) := dk_2 (dk_at dksX0_drives_5 21 rfl rfl)
theorem dX0_drives_138 : decode cX0_drives 138 = .ok (.ireturn, 1) := dk_172 (dk_at dksX0_drives_5 22 rfl rfl)
abbrev cX0_driven : ByteArray := prog_1_method_40_code
def yX0_driven : MethodName := ⟨RX0, "driven", "(LTubBites$Bobber;LTubBites$Bobber;LTubBites$Apple;II)Z"⟩
def dkwX0_driven_7 : List UInt8 := [167, 255, 136, 3, 172]
abbrev dktX0_driven_7 : List UInt8 := dkwX0_driven_7 ++ []
def dkwX0_driven_6 : List UInt8 := [180, 0, 12, 42, 180, 0, 34, 21, 6, 182, 0, 237, 21, 8, 153, 0, 5, 4, 172, 132, 7, 1]
abbrev dktX0_driven_6 : List UInt8 := dkwX0_driven_6 ++ dktX0_driven_7
def dkwX0_driven_5 : List UInt8 := [180, 0, 38, 21, 4, 21, 7, 79, 42, 43, 44, 45, 21, 4, 4, 96, 21, 5, 182, 1, 43, 54, 8, 42]
abbrev dktX0_driven_5 : List UInt8 := dkwX0_driven_5 ++ dktX0_driven_6
def dkwX0_driven_4 : List UInt8 := [180, 0, 12, 43, 42, 180, 0, 12, 180, 0, 87, 21, 7, 182, 0, 104, 192, 0, 145, 182, 0, 240, 42]
abbrev dktX0_driven_4 : List UInt8 := dkwX0_driven_4 ++ dktX0_driven_5
def dkwX0_driven_3 : List UInt8 := [182, 0, 104, 192, 0, 145, 3, 182, 0, 173, 154, 0, 6, 167, 0, 75, 178, 0, 221, 3, 50, 42]
abbrev dktX0_driven_3 : List UInt8 := dkwX0_driven_3 ++ dktX0_driven_4
def dkwX0_driven_2 : List UInt8 := [180, 0, 87, 182, 0, 68, 162, 0, 111, 42, 180, 0, 12, 43, 42, 180, 0, 12, 180, 0, 87, 21, 7]
abbrev dktX0_driven_2 : List UInt8 := dkwX0_driven_2 ++ dktX0_driven_3
def dkwX0_driven_1 : List UInt8 := [54, 6, 42, 180, 0, 12, 42, 180, 0, 34, 21, 6, 182, 0, 217, 3, 54, 7, 21, 7, 42, 180, 0, 12]
abbrev dktX0_driven_1 : List UInt8 := dkwX0_driven_1 ++ dktX0_driven_2
def dkwX0_driven_0 : List UInt8 := [21, 4, 21, 5, 160, 0, 14, 42, 180, 0, 12, 44, 45, 3, 182, 0, 173, 172, 16, 123, 21, 4, 104]
abbrev dktX0_driven_0 : List UInt8 := dkwX0_driven_0 ++ dktX0_driven_1
theorem dksX0_driven_0 : cX0_driven.data.toList.drop 0 = dktX0_driven_0 := by decide +kernel
theorem dksX0_driven_1 : cX0_driven.data.toList.drop 23 = dktX0_driven_1 := dk_seg dksX0_driven_0 23 rfl rfl
theorem dksX0_driven_2 : cX0_driven.data.toList.drop 47 = dktX0_driven_2 := dk_seg dksX0_driven_1 24 rfl rfl
theorem dksX0_driven_3 : cX0_driven.data.toList.drop 70 = dktX0_driven_3 := dk_seg dksX0_driven_2 23 rfl rfl
theorem dksX0_driven_4 : cX0_driven.data.toList.drop 92 = dktX0_driven_4 := dk_seg dksX0_driven_3 22 rfl rfl
theorem dksX0_driven_5 : cX0_driven.data.toList.drop 115 = dktX0_driven_5 := dk_seg dksX0_driven_4 23 rfl rfl
theorem dksX0_driven_6 : cX0_driven.data.toList.drop 139 = dktX0_driven_6 := dk_seg dksX0_driven_5 24 rfl rfl
theorem dksX0_driven_7 : cX0_driven.data.toList.drop 161 = dktX0_driven_7 := dk_seg dksX0_driven_6 22 rfl rfl
theorem dX0_driven_0 : decode cX0_driven 0 = .ok (.iload 4, 2) := dk_21 4 (dk_at dksX0_driven_0 0 rfl rfl)
theorem dX0_driven_2 : decode cX0_driven 2 = .ok (.iload 5, 2) := dk_21 5 (dk_at dksX0_driven_0 2 rfl rfl)
theorem dX0_driven_4 : decode cX0_driven 4 = .ok (.if_icmp .ne 14, 3) := dk_160 0 14 (dk_at dksX0_driven_0 4 rfl rfl)
theorem dX0_driven_7 : decode cX0_driven 7 = .ok (.aload_n 0, 1) := dk_42 (dk_at dksX0_driven_0 7 rfl rfl)
theorem dX0_driven_8 : decode cX0_driven 8 = .ok (.getfield 12, 3) := dk_180 0 12 (dk_at dksX0_driven_0 8 rfl rfl)
theorem dX0_driven_11 : decode cX0_driven 11 = .ok (.aload_n 2, 1) := dk_44 (dk_at dksX0_driven_0 11 rfl rfl)
theorem dX0_driven_12 : decode cX0_driven 12 = .ok (.aload_n 3, 1) := dk_45 (dk_at dksX0_driven_0 12 rfl rfl)
theorem dX0_driven_13 : decode cX0_driven 13 = .ok (.iconst 0, 1) := dk_3 (dk_at dksX0_driven_0 13 rfl rfl)
theorem dX0_driven_14 : decode cX0_driven 14 = .ok (.invokevirtual 173, 3) := dk_182 0 173 (dk_at dksX0_driven_0 14 rfl rfl)
theorem dX0_driven_17 : decode cX0_driven 17 = .ok (.ireturn, 1) := dk_172 (dk_at dksX0_driven_0 17 rfl rfl)
theorem dX0_driven_18 : decode cX0_driven 18 = .ok (.bipush 123, 2) := dk_16 123 (dk_at dksX0_driven_0 18 rfl rfl)
theorem dX0_driven_20 : decode cX0_driven 20 = .ok (.iload 4, 2) := dk_21 4 (dk_at dksX0_driven_0 20 rfl rfl)
theorem dX0_driven_22 : decode cX0_driven 22 = .ok (.imul, 1) := dk_104 (dk_at dksX0_driven_0 22 rfl rfl)
theorem dX0_driven_23 : decode cX0_driven 23 = .ok (.istore 6, 2) := dk_54 6 (dk_at dksX0_driven_1 0 rfl rfl)
theorem dX0_driven_25 : decode cX0_driven 25 = .ok (.aload_n 0, 1) := dk_42 (dk_at dksX0_driven_1 2 rfl rfl)
theorem dX0_driven_26 : decode cX0_driven 26 = .ok (.getfield 12, 3) := dk_180 0 12 (dk_at dksX0_driven_1 3 rfl rfl)
theorem dX0_driven_29 : decode cX0_driven 29 = .ok (.aload_n 0, 1) := dk_42 (dk_at dksX0_driven_1 6 rfl rfl)
theorem dX0_driven_30 : decode cX0_driven 30 = .ok (.getfield 34, 3) := dk_180 0 34 (dk_at dksX0_driven_1 7 rfl rfl)
theorem dX0_driven_33 : decode cX0_driven 33 = .ok (.iload 6, 2) := dk_21 6 (dk_at dksX0_driven_1 10 rfl rfl)
theorem dX0_driven_35 : decode cX0_driven 35 = .ok (.invokevirtual 217, 3) := dk_182 0 217 (dk_at dksX0_driven_1 12 rfl rfl)
theorem dX0_driven_38 : decode cX0_driven 38 = .ok (.iconst 0, 1) := dk_3 (dk_at dksX0_driven_1 15 rfl rfl)
theorem dX0_driven_39 : decode cX0_driven 39 = .ok (.istore 7, 2) := dk_54 7 (dk_at dksX0_driven_1 16 rfl rfl)
theorem dX0_driven_41 : decode cX0_driven 41 = .ok (.iload 7, 2) := dk_21 7 (dk_at dksX0_driven_1 18 rfl rfl)
theorem dX0_driven_43 : decode cX0_driven 43 = .ok (.aload_n 0, 1) := dk_42 (dk_at dksX0_driven_1 20 rfl rfl)
theorem dX0_driven_44 : decode cX0_driven 44 = .ok (.getfield 12, 3) := dk_180 0 12 (dk_at dksX0_driven_1 21 rfl rfl)
theorem dX0_driven_47 : decode cX0_driven 47 = .ok (.getfield 87, 3) := dk_180 0 87 (dk_at dksX0_driven_2 0 rfl rfl)
theorem dX0_driven_50 : decode cX0_driven 50 = .ok (.invokevirtual 68, 3) := dk_182 0 68 (dk_at dksX0_driven_2 3 rfl rfl)
theorem dX0_driven_53 : decode cX0_driven 53 = .ok (.if_icmp .ge 111, 3) := dk_162 0 111 (dk_at dksX0_driven_2 6 rfl rfl)
theorem dX0_driven_56 : decode cX0_driven 56 = .ok (.aload_n 0, 1) := dk_42 (dk_at dksX0_driven_2 9 rfl rfl)
theorem dX0_driven_57 : decode cX0_driven 57 = .ok (.getfield 12, 3) := dk_180 0 12 (dk_at dksX0_driven_2 10 rfl rfl)
theorem dX0_driven_60 : decode cX0_driven 60 = .ok (.aload_n 1, 1) := dk_43 (dk_at dksX0_driven_2 13 rfl rfl)
theorem dX0_driven_61 : decode cX0_driven 61 = .ok (.aload_n 0, 1) := dk_42 (dk_at dksX0_driven_2 14 rfl rfl)
theorem dX0_driven_62 : decode cX0_driven 62 = .ok (.getfield 12, 3) := dk_180 0 12 (dk_at dksX0_driven_2 15 rfl rfl)
theorem dX0_driven_65 : decode cX0_driven 65 = .ok (.getfield 87, 3) := dk_180 0 87 (dk_at dksX0_driven_2 18 rfl rfl)
theorem dX0_driven_68 : decode cX0_driven 68 = .ok (.iload 7, 2) := dk_21 7 (dk_at dksX0_driven_2 21 rfl rfl)
theorem dX0_driven_70 : decode cX0_driven 70 = .ok (.invokevirtual 104, 3) := dk_182 0 104 (dk_at dksX0_driven_3 0 rfl rfl)
theorem dX0_driven_73 : decode cX0_driven 73 = .ok (.checkcast 145, 3) := dk_192 0 145 (dk_at dksX0_driven_3 3 rfl rfl)
theorem dX0_driven_76 : decode cX0_driven 76 = .ok (.iconst 0, 1) := dk_3 (dk_at dksX0_driven_3 6 rfl rfl)
theorem dX0_driven_77 : decode cX0_driven 77 = .ok (.invokevirtual 173, 3) := dk_182 0 173 (dk_at dksX0_driven_3 7 rfl rfl)
theorem dX0_driven_80 : decode cX0_driven 80 = .ok (.ifCond .ne 6, 3) := dk_154 0 6 (dk_at dksX0_driven_3 10 rfl rfl)
theorem dX0_driven_83 : decode cX0_driven 83 = .ok (.goto 75, 3) := dk_167 0 75 (dk_at dksX0_driven_3 13 rfl rfl)
theorem dX0_driven_86 : decode cX0_driven 86 = .ok (.getstatic 221, 3) := dk_178 0 221 (dk_at dksX0_driven_3 16 rfl rfl)
theorem dX0_driven_89 : decode cX0_driven 89 = .ok (.iconst 0, 1) := dk_3 (dk_at dksX0_driven_3 19 rfl rfl)
theorem dX0_driven_90 : decode cX0_driven 90 = .ok (.aaload, 1) := dk_50 (dk_at dksX0_driven_3 20 rfl rfl)
theorem dX0_driven_91 : decode cX0_driven 91 = .ok (.aload_n 0, 1) := dk_42 (dk_at dksX0_driven_3 21 rfl rfl)
theorem dX0_driven_92 : decode cX0_driven 92 = .ok (.getfield 12, 3) := dk_180 0 12 (dk_at dksX0_driven_4 0 rfl rfl)
theorem dX0_driven_95 : decode cX0_driven 95 = .ok (.aload_n 1, 1) := dk_43 (dk_at dksX0_driven_4 3 rfl rfl)
theorem dX0_driven_96 : decode cX0_driven 96 = .ok (.aload_n 0, 1) := dk_42 (dk_at dksX0_driven_4 4 rfl rfl)
theorem dX0_driven_97 : decode cX0_driven 97 = .ok (.getfield 12, 3) := dk_180 0 12 (dk_at dksX0_driven_4 5 rfl rfl)
theorem dX0_driven_100 : decode cX0_driven 100 = .ok (.getfield 87, 3) := dk_180 0 87 (dk_at dksX0_driven_4 8 rfl rfl)
theorem dX0_driven_103 : decode cX0_driven 103 = .ok (.iload 7, 2) := dk_21 7 (dk_at dksX0_driven_4 11 rfl rfl)
theorem dX0_driven_105 : decode cX0_driven 105 = .ok (.invokevirtual 104, 3) := dk_182 0 104 (dk_at dksX0_driven_4 13 rfl rfl)
theorem dX0_driven_108 : decode cX0_driven 108 = .ok (.checkcast 145, 3) := dk_192 0 145 (dk_at dksX0_driven_4 16 rfl rfl)
theorem dX0_driven_111 : decode cX0_driven 111 = .ok (.invokevirtual 240, 3) := dk_182 0 240 (dk_at dksX0_driven_4 19 rfl rfl)
theorem dX0_driven_114 : decode cX0_driven 114 = .ok (.aload_n 0, 1) := dk_42 (dk_at dksX0_driven_4 22 rfl rfl)
theorem dX0_driven_115 : decode cX0_driven 115 = .ok (.getfield 38, 3) := dk_180 0 38 (dk_at dksX0_driven_5 0 rfl rfl)
theorem dX0_driven_118 : decode cX0_driven 118 = .ok (.iload 4, 2) := dk_21 4 (dk_at dksX0_driven_5 3 rfl rfl)
theorem dX0_driven_120 : decode cX0_driven 120 = .ok (.iload 7, 2) := dk_21 7 (dk_at dksX0_driven_5 5 rfl rfl)
theorem dX0_driven_122 : decode cX0_driven 122 = .ok (.iastore, 1) := dk_79 (dk_at dksX0_driven_5 7 rfl rfl)
theorem dX0_driven_123 : decode cX0_driven 123 = .ok (.aload_n 0, 1) := dk_42 (dk_at dksX0_driven_5 8 rfl rfl)
theorem dX0_driven_124 : decode cX0_driven 124 = .ok (.aload_n 1, 1) := dk_43 (dk_at dksX0_driven_5 9 rfl rfl)
theorem dX0_driven_125 : decode cX0_driven 125 = .ok (.aload_n 2, 1) := dk_44 (dk_at dksX0_driven_5 10 rfl rfl)
theorem dX0_driven_126 : decode cX0_driven 126 = .ok (.aload_n 3, 1) := dk_45 (dk_at dksX0_driven_5 11 rfl rfl)
theorem dX0_driven_127 : decode cX0_driven 127 = .ok (.iload 4, 2) := dk_21 4 (dk_at dksX0_driven_5 12 rfl rfl)
theorem dX0_driven_129 : decode cX0_driven 129 = .ok (.iconst 1, 1) := dk_4 (dk_at dksX0_driven_5 14 rfl rfl)
theorem dX0_driven_130 : decode cX0_driven 130 = .ok (.iadd, 1) := dk_96 (dk_at dksX0_driven_5 15 rfl rfl)
theorem dX0_driven_131 : decode cX0_driven 131 = .ok (.iload 5, 2) := dk_21 5 (dk_at dksX0_driven_5 16 rfl rfl)
theorem dX0_driven_133 : decode cX0_driven 133 = .ok (.invokevirtual 299, 3) := dk_182 1 43 (dk_at dksX0_driven_5 18 rfl rfl)
theorem dX0_driven_136 : decode cX0_driven 136 = .ok (.istore 8, 2) := dk_54 8 (dk_at dksX0_driven_5 21 rfl rfl)
theorem dX0_driven_138 : decode cX0_driven 138 = .ok (.aload_n 0, 1) := dk_42 (dk_at dksX0_driven_5 23 rfl rfl)
theorem dX0_driven_139 : decode cX0_driven 139 = .ok (.getfield 12, 3) := dk_180 0 12 (dk_at dksX0_driven_6 0 rfl rfl)
theorem dX0_driven_142 : decode cX0_driven 142 = .ok (.aload_n 0, 1) := dk_42 (dk_at dksX0_driven_6 3 rfl rfl)
theorem dX0_driven_143 : decode cX0_driven 143 = .ok (.getfield 34, 3) := dk_180 0 34 (dk_at dksX0_driven_6 4 rfl rfl)
theorem dX0_driven_146 : decode cX0_driven 146 = .ok (.iload 6, 2) := dk_21 6 (dk_at dksX0_driven_6 7 rfl rfl)
theorem dX0_driven_148 : decode cX0_driven 148 = .ok (.invokevirtual 237, 3) := dk_182 0 237 (dk_at dksX0_driven_6 9 rfl rfl)
theorem dX0_driven_151 : decode cX0_driven 151 = .ok (.iload 8, 2) := dk_21 8 (dk_at dksX0_driven_6 12 rfl rfl)
theorem dX0_driven_153 : decode cX0_driven 153 = .ok (.ifCond .eq 5, 3) := dk_153 0 5 (dk_at dksX0_driven_6 14 rfl rfl)
theorem dX0_driven_156 : decode cX0_driven 156 = .ok (.iconst 1, 1) := dk_4 (dk_at dksX0_driven_6 17 rfl rfl)
theorem dX0_driven_157 : decode cX0_driven 157 = .ok (.ireturn, 1) := dk_172 (dk_at dksX0_driven_6 18 rfl rfl)
theorem dX0_driven_158 : decode cX0_driven 158 = .ok (.iinc 7 1, 3) := dk_132 7 1 (dk_at dksX0_driven_6 19 rfl rfl)
theorem dX0_driven_161 : decode cX0_driven 161 = .ok (.goto (-120), 3) := dk_167 255 136 (dk_at dksX0_driven_7 0 rfl rfl)
theorem dX0_driven_164 : decode cX0_driven 164 = .ok (.iconst 0, 1) := dk_3 (dk_at dksX0_driven_7 3 rfl rfl)
theorem dX0_driven_165 : decode cX0_driven 165 = .ok (.ireturn, 1) := dk_172 (dk_at dksX0_driven_7 4 rfl rfl)
abbrev cX0_gone : ByteArray := prog_1_method_44_code
def yX0_gone : MethodName := ⟨RX0, "gone", "(I)I"⟩
def dkwX0_gone_1 : List UInt8 := [182, 1, 53, 61, 28, 16, 60, 164, 0, 7, 2, 167, 0, 4, 28, 172]
abbrev dktX0_gone_1 : List UInt8 := dkwX0_gone_1 ++ []
def dkwX0_gone_0 : List UInt8 := [27, 155, 0, 14, 27, 42, 182, 1, 50, 2, 130, 126, 153, 0, 6, 16, 254, 172, 42, 27, 16, 60]
abbrev dktX0_gone_0 : List UInt8 := dkwX0_gone_0 ++ dktX0_gone_1
theorem dksX0_gone_0 : cX0_gone.data.toList.drop 0 = dktX0_gone_0 := by decide +kernel
theorem dksX0_gone_1 : cX0_gone.data.toList.drop 22 = dktX0_gone_1 := dk_seg dksX0_gone_0 22 rfl rfl
theorem dX0_gone_0 : decode cX0_gone 0 = .ok (.iload_n 1, 1) := dk_27 (dk_at dksX0_gone_0 0 rfl rfl)
theorem dX0_gone_1 : decode cX0_gone 1 = .ok (.ifCond .lt 14, 3) := dk_155 0 14 (dk_at dksX0_gone_0 1 rfl rfl)
theorem dX0_gone_4 : decode cX0_gone 4 = .ok (.iload_n 1, 1) := dk_27 (dk_at dksX0_gone_0 4 rfl rfl)
theorem dX0_gone_5 : decode cX0_gone 5 = .ok (.aload_n 0, 1) := dk_42 (dk_at dksX0_gone_0 5 rfl rfl)
theorem dX0_gone_6 : decode cX0_gone 6 = .ok (.invokevirtual 306, 3) := dk_182 1 50 (dk_at dksX0_gone_0 6 rfl rfl)
theorem dX0_gone_9 : decode cX0_gone 9 = .ok (.iconst (-1), 1) := dk_2 (dk_at dksX0_gone_0 9 rfl rfl)
theorem dX0_gone_10 : decode cX0_gone 10 = .ok (.ixor, 1) := dk_130 (dk_at dksX0_gone_0 10 rfl rfl)
theorem dX0_gone_11 : decode cX0_gone 11 = .ok (.iand, 1) := dk_126 (dk_at dksX0_gone_0 11 rfl rfl)
theorem dX0_gone_12 : decode cX0_gone 12 = .ok (.ifCond .eq 6, 3) := dk_153 0 6 (dk_at dksX0_gone_0 12 rfl rfl)
theorem dX0_gone_15 : decode cX0_gone 15 = .ok (.bipush (-2), 2) := dk_16 254 (dk_at dksX0_gone_0 15 rfl rfl)
theorem dX0_gone_17 : decode cX0_gone 17 = .ok (.ireturn, 1) := dk_172 (dk_at dksX0_gone_0 17 rfl rfl)
theorem dX0_gone_18 : decode cX0_gone 18 = .ok (.aload_n 0, 1) := dk_42 (dk_at dksX0_gone_0 18 rfl rfl)
theorem dX0_gone_19 : decode cX0_gone 19 = .ok (.iload_n 1, 1) := dk_27 (dk_at dksX0_gone_0 19 rfl rfl)
theorem dX0_gone_20 : decode cX0_gone 20 = .ok (.bipush 60, 2) := dk_16 60 (dk_at dksX0_gone_0 20 rfl rfl)
theorem dX0_gone_22 : decode cX0_gone 22 = .ok (.invokevirtual 309, 3) := dk_182 1 53 (dk_at dksX0_gone_1 0 rfl rfl)
theorem dX0_gone_25 : decode cX0_gone 25 = .ok (.istore_n 2, 1) := dk_61 (dk_at dksX0_gone_1 3 rfl rfl)
theorem dX0_gone_26 : decode cX0_gone 26 = .ok (.iload_n 2, 1) := dk_28 (dk_at dksX0_gone_1 4 rfl rfl)
theorem dX0_gone_27 : decode cX0_gone 27 = .ok (.bipush 60, 2) := dk_16 60 (dk_at dksX0_gone_1 5 rfl rfl)
theorem dX0_gone_29 : decode cX0_gone 29 = .ok (.if_icmp .le 7, 3) := dk_164 0 7 (dk_at dksX0_gone_1 7 rfl rfl)
theorem dX0_gone_32 : decode cX0_gone 32 = .ok (.iconst (-1), 1) := dk_2 (dk_at dksX0_gone_1 10 rfl rfl)
theorem dX0_gone_33 : decode cX0_gone 33 = .ok (.goto 4, 3) := dk_167 0 4 (dk_at dksX0_gone_1 11 rfl rfl)
theorem dX0_gone_36 : decode cX0_gone 36 = .ok (.iload_n 2, 1) := dk_28 (dk_at dksX0_gone_1 14 rfl rfl)
theorem dX0_gone_37 : decode cX0_gone 37 = .ok (.ireturn, 1) := dk_172 (dk_at dksX0_gone_1 15 rfl rfl)
abbrev cX0_inTub : ByteArray := prog_1_method_43_code
def yX0_inTub : MethodName := ⟨RX0, "inTub", "()I"⟩
def dkwX0_inTub_2 : List UInt8 := [128, 60, 132, 2, 1, 167, 255, 208, 27, 172]
abbrev dktX0_inTub_2 : List UInt8 := dkwX0_inTub_2 ++ []
def dkwX0_inTub_1 : List UInt8 := [180, 0, 87, 28, 182, 0, 104, 192, 0, 145, 180, 0, 153, 2, 160, 0, 9, 4, 28, 120, 167, 0, 4, 3]
abbrev dktX0_inTub_1 : List UInt8 := dkwX0_inTub_1 ++ dktX0_inTub_2
def dkwX0_inTub_0 : List UInt8 := [3, 60, 3, 61, 28, 42, 180, 0, 12, 180, 0, 87, 182, 0, 68, 162, 0, 40, 27, 42, 180, 0, 12]
abbrev dktX0_inTub_0 : List UInt8 := dkwX0_inTub_0 ++ dktX0_inTub_1
theorem dksX0_inTub_0 : cX0_inTub.data.toList.drop 0 = dktX0_inTub_0 := by decide +kernel
theorem dksX0_inTub_1 : cX0_inTub.data.toList.drop 23 = dktX0_inTub_1 := dk_seg dksX0_inTub_0 23 rfl rfl
theorem dksX0_inTub_2 : cX0_inTub.data.toList.drop 47 = dktX0_inTub_2 := dk_seg dksX0_inTub_1 24 rfl rfl
theorem dX0_inTub_0 : decode cX0_inTub 0 = .ok (.iconst 0, 1) := dk_3 (dk_at dksX0_inTub_0 0 rfl rfl)
theorem dX0_inTub_1 : decode cX0_inTub 1 = .ok (.istore_n 1, 1) := dk_60 (dk_at dksX0_inTub_0 1 rfl rfl)
theorem dX0_inTub_2 : decode cX0_inTub 2 = .ok (.iconst 0, 1) := dk_3 (dk_at dksX0_inTub_0 2 rfl rfl)
theorem dX0_inTub_3 : decode cX0_inTub 3 = .ok (.istore_n 2, 1) := dk_61 (dk_at dksX0_inTub_0 3 rfl rfl)
theorem dX0_inTub_4 : decode cX0_inTub 4 = .ok (.iload_n 2, 1) := dk_28 (dk_at dksX0_inTub_0 4 rfl rfl)
theorem dX0_inTub_5 : decode cX0_inTub 5 = .ok (.aload_n 0, 1) := dk_42 (dk_at dksX0_inTub_0 5 rfl rfl)
theorem dX0_inTub_6 : decode cX0_inTub 6 = .ok (.getfield 12, 3) := dk_180 0 12 (dk_at dksX0_inTub_0 6 rfl rfl)
theorem dX0_inTub_9 : decode cX0_inTub 9 = .ok (.getfield 87, 3) := dk_180 0 87 (dk_at dksX0_inTub_0 9 rfl rfl)
theorem dX0_inTub_12 : decode cX0_inTub 12 = .ok (.invokevirtual 68, 3) := dk_182 0 68 (dk_at dksX0_inTub_0 12 rfl rfl)
theorem dX0_inTub_15 : decode cX0_inTub 15 = .ok (.if_icmp .ge 40, 3) := dk_162 0 40 (dk_at dksX0_inTub_0 15 rfl rfl)
theorem dX0_inTub_18 : decode cX0_inTub 18 = .ok (.iload_n 1, 1) := dk_27 (dk_at dksX0_inTub_0 18 rfl rfl)
theorem dX0_inTub_19 : decode cX0_inTub 19 = .ok (.aload_n 0, 1) := dk_42 (dk_at dksX0_inTub_0 19 rfl rfl)
theorem dX0_inTub_20 : decode cX0_inTub 20 = .ok (.getfield 12, 3) := dk_180 0 12 (dk_at dksX0_inTub_0 20 rfl rfl)
theorem dX0_inTub_23 : decode cX0_inTub 23 = .ok (.getfield 87, 3) := dk_180 0 87 (dk_at dksX0_inTub_1 0 rfl rfl)
theorem dX0_inTub_26 : decode cX0_inTub 26 = .ok (.iload_n 2, 1) := dk_28 (dk_at dksX0_inTub_1 3 rfl rfl)
theorem dX0_inTub_27 : decode cX0_inTub 27 = .ok (.invokevirtual 104, 3) := dk_182 0 104 (dk_at dksX0_inTub_1 4 rfl rfl)
theorem dX0_inTub_30 : decode cX0_inTub 30 = .ok (.checkcast 145, 3) := dk_192 0 145 (dk_at dksX0_inTub_1 7 rfl rfl)
theorem dX0_inTub_33 : decode cX0_inTub 33 = .ok (.getfield 153, 3) := dk_180 0 153 (dk_at dksX0_inTub_1 10 rfl rfl)
theorem dX0_inTub_36 : decode cX0_inTub 36 = .ok (.iconst (-1), 1) := dk_2 (dk_at dksX0_inTub_1 13 rfl rfl)
theorem dX0_inTub_37 : decode cX0_inTub 37 = .ok (.if_icmp .ne 9, 3) := dk_160 0 9 (dk_at dksX0_inTub_1 14 rfl rfl)
theorem dX0_inTub_40 : decode cX0_inTub 40 = .ok (.iconst 1, 1) := dk_4 (dk_at dksX0_inTub_1 17 rfl rfl)
theorem dX0_inTub_41 : decode cX0_inTub 41 = .ok (.iload_n 2, 1) := dk_28 (dk_at dksX0_inTub_1 18 rfl rfl)
theorem dX0_inTub_42 : decode cX0_inTub 42 = .ok (.ishl, 1) := dk_120 (dk_at dksX0_inTub_1 19 rfl rfl)
theorem dX0_inTub_43 : decode cX0_inTub 43 = .ok (.goto 4, 3) := dk_167 0 4 (dk_at dksX0_inTub_1 20 rfl rfl)
theorem dX0_inTub_46 : decode cX0_inTub 46 = .ok (.iconst 0, 1) := dk_3 (dk_at dksX0_inTub_1 23 rfl rfl)
theorem dX0_inTub_47 : decode cX0_inTub 47 = .ok (.ior, 1) := dk_128 (dk_at dksX0_inTub_2 0 rfl rfl)
theorem dX0_inTub_48 : decode cX0_inTub 48 = .ok (.istore_n 1, 1) := dk_60 (dk_at dksX0_inTub_2 1 rfl rfl)
theorem dX0_inTub_49 : decode cX0_inTub 49 = .ok (.iinc 2 1, 3) := dk_132 2 1 (dk_at dksX0_inTub_2 2 rfl rfl)
theorem dX0_inTub_52 : decode cX0_inTub 52 = .ok (.goto (-48), 3) := dk_167 255 208 (dk_at dksX0_inTub_2 5 rfl rfl)
theorem dX0_inTub_55 : decode cX0_inTub 55 = .ok (.iload_n 1, 1) := dk_27 (dk_at dksX0_inTub_2 8 rfl rfl)
theorem dX0_inTub_56 : decode cX0_inTub 56 = .ok (.ireturn, 1) := dk_172 (dk_at dksX0_inTub_2 9 rfl rfl)
abbrev cX0_goneBy : ByteArray := prog_1_method_42_code
def yX0_goneBy : MethodName := ⟨RX0, "goneBy", "(II)I"⟩
def dkwX0_goneBy_5 : List UInt8 := [87, 132, 4, 1, 167, 255, 222, 167, 255, 198, 42, 180, 0, 12, 42, 180, 0, 34, 3, 182, 0, 237, 29, 172]
abbrev dktX0_goneBy_5 : List UInt8 := dkwX0_goneBy_5 ++ []
def dkwX0_goneBy_4 : List UInt8 := [180, 0, 94, 182, 0, 68, 162, 0, 25, 42, 180, 0, 12, 21, 4, 42, 21, 4, 182, 0, 184, 182, 0, 206]
abbrev dktX0_goneBy_4 : List UInt8 := dkwX0_goneBy_4 ++ dktX0_goneBy_5
def dkwX0_goneBy_3 : List UInt8 := [42, 180, 0, 12, 182, 1, 47, 158, 0, 49, 132, 3, 1, 3, 54, 4, 21, 4, 42, 180, 0, 12]
abbrev dktX0_goneBy_3 : List UInt8 := dkwX0_goneBy_3 ++ dktX0_goneBy_4
def dkwX0_goneBy_2 : List UInt8 := [182, 0, 104, 192, 0, 145, 16, 9, 181, 0, 153, 132, 3, 1, 167, 255, 212, 3, 62, 29, 28, 163, 0, 59]
abbrev dktX0_goneBy_2 : List UInt8 := dkwX0_goneBy_2 ++ dktX0_goneBy_3
def dkwX0_goneBy_1 : List UInt8 := [182, 0, 68, 162, 0, 36, 27, 29, 122, 4, 126, 154, 0, 22, 42, 180, 0, 12, 180, 0, 87, 29]
abbrev dktX0_goneBy_1 : List UInt8 := dkwX0_goneBy_1 ++ dktX0_goneBy_2
def dkwX0_goneBy_0 : List UInt8 := [42, 180, 0, 12, 42, 180, 0, 34, 3, 182, 0, 217, 3, 62, 29, 42, 180, 0, 12, 180, 0, 87]
abbrev dktX0_goneBy_0 : List UInt8 := dkwX0_goneBy_0 ++ dktX0_goneBy_1
theorem dksX0_goneBy_0 : cX0_goneBy.data.toList.drop 0 = dktX0_goneBy_0 := by decide +kernel
theorem dksX0_goneBy_1 : cX0_goneBy.data.toList.drop 22 = dktX0_goneBy_1 := dk_seg dksX0_goneBy_0 22 rfl rfl
theorem dksX0_goneBy_2 : cX0_goneBy.data.toList.drop 44 = dktX0_goneBy_2 := dk_seg dksX0_goneBy_1 22 rfl rfl
theorem dksX0_goneBy_3 : cX0_goneBy.data.toList.drop 68 = dktX0_goneBy_3 := dk_seg dksX0_goneBy_2 24 rfl rfl
theorem dksX0_goneBy_4 : cX0_goneBy.data.toList.drop 90 = dktX0_goneBy_4 := dk_seg dksX0_goneBy_3 22 rfl rfl
theorem dksX0_goneBy_5 : cX0_goneBy.data.toList.drop 114 = dktX0_goneBy_5 := dk_seg dksX0_goneBy_4 24 rfl rfl
theorem dX0_goneBy_0 : decode cX0_goneBy 0 = .ok (.aload_n 0, 1) := dk_42 (dk_at dksX0_goneBy_0 0 rfl rfl)
theorem dX0_goneBy_1 : decode cX0_goneBy 1 = .ok (.getfield 12, 3) := dk_180 0 12 (dk_at dksX0_goneBy_0 1 rfl rfl)
theorem dX0_goneBy_4 : decode cX0_goneBy 4 = .ok (.aload_n 0, 1) := dk_42 (dk_at dksX0_goneBy_0 4 rfl rfl)
theorem dX0_goneBy_5 : decode cX0_goneBy 5 = .ok (.getfield 34, 3) := dk_180 0 34 (dk_at dksX0_goneBy_0 5 rfl rfl)
theorem dX0_goneBy_8 : decode cX0_goneBy 8 = .ok (.iconst 0, 1) := dk_3 (dk_at dksX0_goneBy_0 8 rfl rfl)
theorem dX0_goneBy_9 : decode cX0_goneBy 9 = .ok (.invokevirtual 217, 3) := dk_182 0 217 (dk_at dksX0_goneBy_0 9 rfl rfl)
theorem dX0_goneBy_12 : decode cX0_goneBy 12 = .ok (.iconst 0, 1) := dk_3 (dk_at dksX0_goneBy_0 12 rfl rfl)
theorem dX0_goneBy_13 : decode cX0_goneBy 13 = .ok (.istore_n 3, 1) := dk_62 (dk_at dksX0_goneBy_0 13 rfl rfl)
theorem dX0_goneBy_14 : decode cX0_goneBy 14 = .ok (.iload_n 3, 1) := dk_29 (dk_at dksX0_goneBy_0 14 rfl rfl)
theorem dX0_goneBy_15 : decode cX0_goneBy 15 = .ok (.aload_n 0, 1) := dk_42 (dk_at dksX0_goneBy_0 15 rfl rfl)
theorem dX0_goneBy_16 : decode cX0_goneBy 16 = .ok (.getfield 12, 3) := dk_180 0 12 (dk_at dksX0_goneBy_0 16 rfl rfl)
theorem dX0_goneBy_19 : decode cX0_goneBy 19 = .ok (.getfield 87, 3) := dk_180 0 87 (dk_at dksX0_goneBy_0 19 rfl rfl)
theorem dX0_goneBy_22 : decode cX0_goneBy 22 = .ok (.invokevirtual 68, 3) := dk_182 0 68 (dk_at dksX0_goneBy_1 0 rfl rfl)
theorem dX0_goneBy_25 : decode cX0_goneBy 25 = .ok (.if_icmp .ge 36, 3) := dk_162 0 36 (dk_at dksX0_goneBy_1 3 rfl rfl)
theorem dX0_goneBy_28 : decode cX0_goneBy 28 = .ok (.iload_n 1, 1) := dk_27 (dk_at dksX0_goneBy_1 6 rfl rfl)
theorem dX0_goneBy_29 : decode cX0_goneBy 29 = .ok (.iload_n 3, 1) := dk_29 (dk_at dksX0_goneBy_1 7 rfl rfl)
theorem dX0_goneBy_30 : decode cX0_goneBy 30 = .ok (.ishr, 1) := dk_122 (dk_at dksX0_goneBy_1 8 rfl rfl)
theorem dX0_goneBy_31 : decode cX0_goneBy 31 = .ok (.iconst 1, 1) := dk_4 (dk_at dksX0_goneBy_1 9 rfl rfl)
theorem dX0_goneBy_32 : decode cX0_goneBy 32 = .ok (.iand, 1) := dk_126 (dk_at dksX0_goneBy_1 10 rfl rfl)
theorem dX0_goneBy_33 : decode cX0_goneBy 33 = .ok (.ifCond .ne 22, 3) := dk_154 0 22 (dk_at dksX0_goneBy_1 11 rfl rfl)
theorem dX0_goneBy_36 : decode cX0_goneBy 36 = .ok (.aload_n 0, 1) := dk_42 (dk_at dksX0_goneBy_1 14 rfl rfl)
theorem dX0_goneBy_37 : decode cX0_goneBy 37 = .ok (.getfield 12, 3) := dk_180 0 12 (dk_at dksX0_goneBy_1 15 rfl rfl)
theorem dX0_goneBy_40 : decode cX0_goneBy 40 = .ok (.getfield 87, 3) := dk_180 0 87 (dk_at dksX0_goneBy_1 18 rfl rfl)
theorem dX0_goneBy_43 : decode cX0_goneBy 43 = .ok (.iload_n 3, 1) := dk_29 (dk_at dksX0_goneBy_1 21 rfl rfl)
theorem dX0_goneBy_44 : decode cX0_goneBy 44 = .ok (.invokevirtual 104, 3) := dk_182 0 104 (dk_at dksX0_goneBy_2 0 rfl rfl)
theorem dX0_goneBy_47 : decode cX0_goneBy 47 = .ok (.checkcast 145, 3) := dk_192 0 145 (dk_at dksX0_goneBy_2 3 rfl rfl)
theorem dX0_goneBy_50 : decode cX0_goneBy 50 = .ok (.bipush 9, 2) := dk_16 9 (dk_at dksX0_goneBy_2 6 rfl rfl)
theorem dX0_goneBy_52 : decode cX0_goneBy 52 = .ok (.putfield 153, 3) := dk_181 0 153 (dk_at dksX0_goneBy_2 8 rfl rfl)
theorem dX0_goneBy_55 : decode cX0_goneBy 55 = .ok (.iinc 3 1, 3) := dk_132 3 1 (dk_at dksX0_goneBy_2 11 rfl rfl)
theorem dX0_goneBy_58 : decode cX0_goneBy 58 = .ok (.goto (-44), 3) := dk_167 255 212 (dk_at dksX0_goneBy_2 14 rfl rfl)
theorem dX0_goneBy_61 : decode cX0_goneBy 61 = .ok (.iconst 0, 1) := dk_3 (dk_at dksX0_goneBy_2 17 rfl rfl)
theorem dX0_goneBy_62 : decode cX0_goneBy 62 = .ok (.istore_n 3, 1) := dk_62 (dk_at dksX0_goneBy_2 18 rfl rfl)
theorem dX0_goneBy_63 : decode cX0_goneBy 63 = .ok (.iload_n 3, 1) := dk_29 (dk_at dksX0_goneBy_2 19 rfl rfl)
theorem dX0_goneBy_64 : decode cX0_goneBy 64 = .ok (.iload_n 2, 1) := dk_28 (dk_at dksX0_goneBy_2 20 rfl rfl)
theorem dX0_goneBy_65 : decode cX0_goneBy 65 = .ok (.if_icmp .gt 59, 3) := dk_163 0 59 (dk_at dksX0_goneBy_2 21 rfl rfl)
theorem dX0_goneBy_68 : decode cX0_goneBy 68 = .ok (.aload_n 0, 1) := dk_42 (dk_at dksX0_goneBy_3 0 rfl rfl)
theorem dX0_goneBy_69 : decode cX0_goneBy 69 = .ok (.getfield 12, 3) := dk_180 0 12 (dk_at dksX0_goneBy_3 1 rfl rfl)
theorem dX0_goneBy_72 : decode cX0_goneBy 72 = .ok (.invokevirtual 303, 3) := dk_182 1 47 (dk_at dksX0_goneBy_3 4 rfl rfl)
theorem dX0_goneBy_75 : decode cX0_goneBy 75 = .ok (.ifCond .le 49, 3) := dk_158 0 49 (dk_at dksX0_goneBy_3 7 rfl rfl)
theorem dX0_goneBy_78 : decode cX0_goneBy 78 = .ok (.iinc 3 1, 3) := dk_132 3 1 (dk_at dksX0_goneBy_3 10 rfl rfl)
theorem dX0_goneBy_81 : decode cX0_goneBy 81 = .ok (.iconst 0, 1) := dk_3 (dk_at dksX0_goneBy_3 13 rfl rfl)
theorem dX0_goneBy_82 : decode cX0_goneBy 82 = .ok (.istore 4, 2) := dk_54 4 (dk_at dksX0_goneBy_3 14 rfl rfl)
theorem dX0_goneBy_84 : decode cX0_goneBy 84 = .ok (.iload 4, 2) := dk_21 4 (dk_at dksX0_goneBy_3 16 rfl rfl)
theorem dX0_goneBy_86 : decode cX0_goneBy 86 = .ok (.aload_n 0, 1) := dk_42 (dk_at dksX0_goneBy_3 18 rfl rfl)
theorem dX0_goneBy_87 : decode cX0_goneBy 87 = .ok (.getfield 12, 3) := dk_180 0 12 (dk_at dksX0_goneBy_3 19 rfl rfl)
theorem dX0_goneBy_90 : decode cX0_goneBy 90 = .ok (.getfield 94, 3) := dk_180 0 94 (dk_at dksX0_goneBy_4 0 rfl rfl)
theorem dX0_goneBy_93 : decode cX0_goneBy 93 = .ok (.invokevirtual 68, 3) := dk_182 0 68 (dk_at dksX0_goneBy_4 3 rfl rfl)
theorem dX0_goneBy_96 : decode cX0_goneBy 96 = .ok (.if_icmp .ge 25, 3) := dk_162 0 25 (dk_at dksX0_goneBy_4 6 rfl rfl)
theorem dX0_goneBy_99 : decode cX0_goneBy 99 = .ok (.aload_n 0, 1) := dk_42 (dk_at dksX0_goneBy_4 9 rfl rfl)
theorem dX0_goneBy_100 : decode cX0_goneBy 100 = .ok (.getfield 12, 3) := dk_180 0 12 (dk_at dksX0_goneBy_4 10 rfl rfl)
theorem dX0_goneBy_103 : decode cX0_goneBy 103 = .ok (.iload 4, 2) := dk_21 4 (dk_at dksX0_goneBy_4 13 rfl rfl)
theorem dX0_goneBy_105 : decode cX0_goneBy 105 = .ok (.aload_n 0, 1) := dk_42 (dk_at dksX0_goneBy_4 15 rfl rfl)
theorem dX0_goneBy_106 : decode cX0_goneBy 106 = .ok (.iload 4, 2) := dk_21 4 (dk_at dksX0_goneBy_4 16 rfl rfl)
theorem dX0_goneBy_108 : decode cX0_goneBy 108 = .ok (.invokevirtual 184, 3) := dk_182 0 184 (dk_at dksX0_goneBy_4 18 rfl rfl)
theorem dX0_goneBy_111 : decode cX0_goneBy 111 = .ok (.invokevirtual 206, 3) := dk_182 0 206 (dk_at dksX0_goneBy_4 21 rfl rfl)
theorem dX0_goneBy_114 : decode cX0_goneBy 114 = .ok (.pop, 1) := dk_87 (dk_at dksX0_goneBy_5 0 rfl rfl)
theorem dX0_goneBy_115 : decode cX0_goneBy 115 = .ok (.iinc 4 1, 3) := dk_132 4 1 (dk_at dksX0_goneBy_5 1 rfl rfl)
theorem dX0_goneBy_118 : decode cX0_goneBy 118 = .ok (.goto (-34), 3) := dk_167 255 222 (dk_at dksX0_goneBy_5 4 rfl rfl)
theorem dX0_goneBy_121 : decode cX0_goneBy 121 = .ok (.goto (-58), 3) := dk_167 255 198 (dk_at dksX0_goneBy_5 7 rfl rfl)
theorem dX0_goneBy_124 : decode cX0_goneBy 124 = .ok (.aload_n 0, 1) := dk_42 (dk_at dksX0_goneBy_5 10 rfl rfl)
theorem dX0_goneBy_125 : decode cX0_goneBy 125 = .ok (.getfield 12, 3) := dk_180 0 12 (dk_at dksX0_goneBy_5 11 rfl rfl)
theorem dX0_goneBy_128 : decode cX0_goneBy 128 = .ok (.aload_n 0, 1) := dk_42 (dk_at dksX0_goneBy_5 14 rfl rfl)
theorem dX0_goneBy_129 : decode cX0_goneBy 129 = .ok (.getfield 34, 3) := dk_180 0 34 (dk_at dksX0_goneBy_5 15 rfl rfl)
theorem dX0_goneBy_132 : decode cX0_goneBy 132 = .ok (.iconst 0, 1) := dk_3 (dk_at dksX0_goneBy_5 18 rfl rfl)
theorem dX0_goneBy_133 : decode cX0_goneBy 133 = .ok (.invokevirtual 237, 3) := dk_182 0 237 (dk_at dksX0_goneBy_5 19 rfl rfl)
theorem dX0_goneBy_136 : decode cX0_goneBy 136 = .ok (.iload_n 3, 1) := dk_29 (dk_at dksX0_goneBy_5 22 rfl rfl)
theorem dX0_goneBy_137 : decode cX0_goneBy 137 = .ok (.ireturn, 1) := dk_172 (dk_at dksX0_goneBy_5 23 rfl rfl)
abbrev cX0_provide : ByteArray := prog_1_method_45_code
def yX0_provide : MethodName := ⟨RX0, "provide", "(II)I"⟩
def dkwX0_provide_4 : List UInt8 := [172, 132, 5, 1, 167, 255, 202, 132, 4, 1, 167, 255, 184, 2, 172]
abbrev dktX0_provide_4 : List UInt8 := dkwX0_provide_4 ++ []
def dkwX0_provide_3 : List UInt8 := [21, 5, 27, 182, 1, 53, 27, 163, 0, 6, 167, 0, 15, 28, 154, 0, 8, 21, 4, 167, 0, 5, 21, 5]
abbrev dktX0_provide_3 : List UInt8 := dkwX0_provide_3 ++ dktX0_provide_4
def dkwX0_provide_2 : List UInt8 := [163, 0, 54, 21, 5, 29, 2, 130, 126, 154, 0, 39, 21, 5, 184, 1, 56, 21, 4, 160, 0, 29, 42]
abbrev dktX0_provide_2 : List UInt8 := dkwX0_provide_2 ++ dktX0_provide_3
def dkwX0_provide_1 : List UInt8 := [182, 1, 50, 62, 4, 54, 4, 21, 4, 29, 184, 1, 56, 163, 0, 69, 4, 54, 5, 21, 5, 29]
abbrev dktX0_provide_1 : List UInt8 := dkwX0_provide_1 ++ dktX0_provide_2
def dkwX0_provide_0 : List UInt8 := [27, 4, 16, 60, 184, 0, 90, 153, 0, 12, 28, 3, 4, 184, 0, 90, 154, 0, 5, 2, 172, 42]
abbrev dktX0_provide_0 : List UInt8 := dkwX0_provide_0 ++ dktX0_provide_1
theorem dksX0_provide_0 : cX0_provide.data.toList.drop 0 = dktX0_provide_0 := by decide +kernel
theorem dksX0_provide_1 : cX0_provide.data.toList.drop 22 = dktX0_provide_1 := dk_seg dksX0_provide_0 22 rfl rfl
theorem dksX0_provide_2 : cX0_provide.data.toList.drop 44 = dktX0_provide_2 := dk_seg dksX0_provide_1 22 rfl rfl
theorem dksX0_provide_3 : cX0_provide.data.toList.drop 67 = dktX0_provide_3 := dk_seg dksX0_provide_2 23 rfl rfl
theorem dksX0_provide_4 : cX0_provide.data.toList.drop 91 = dktX0_provide_4 := dk_seg dksX0_provide_3 24 rfl rfl
theorem dX0_provide_0 : decode cX0_provide 0 = .ok (.iload_n 1, 1) := dk_27 (dk_at dksX0_provide_0 0 rfl rfl)
theorem dX0_provide_1 : decode cX0_provide 1 = .ok (.iconst 1, 1) := dk_4 (dk_at dksX0_provide_0 1 rfl rfl)
theorem dX0_provide_2 : decode cX0_provide 2 = .ok (.bipush 60, 2) := dk_16 60 (dk_at dksX0_provide_0 2 rfl rfl)
theorem dX0_provide_4 : decode cX0_provide 4 = .ok (.invokestatic 90, 3) := dk_184 0 90 (dk_at dksX0_provide_0 4 rfl rfl)
theorem dX0_provide_7 : decode cX0_provide 7 = .ok (.ifCond .eq 12, 3) := dk_153 0 12 (dk_at dksX0_provide_0 7 rfl rfl)
theorem dX0_provide_10 : decode cX0_provide 10 = .ok (.iload_n 2, 1) := dk_28 (dk_at dksX0_provide_0 10 rfl rfl)
theorem dX0_provide_11 : decode cX0_provide 11 = .ok (.iconst 0, 1) := dk_3 (dk_at dksX0_provide_0 11 rfl rfl)
theorem dX0_provide_12 : decode cX0_provide 12 = .ok (.iconst 1, 1) := dk_4 (dk_at dksX0_provide_0 12 rfl rfl)
theorem dX0_provide_13 : decode cX0_provide 13 = .ok (.invokestatic 90, 3) := dk_184 0 90 (dk_at dksX0_provide_0 13 rfl rfl)
theorem dX0_provide_16 : decode cX0_provide 16 = .ok (.ifCond .ne 5, 3) := dk_154 0 5 (dk_at dksX0_provide_0 16 rfl rfl)
theorem dX0_provide_19 : decode cX0_provide 19 = .ok (.iconst (-1), 1) := dk_2 (dk_at dksX0_provide_0 19 rfl rfl)
theorem dX0_provide_20 : decode cX0_provide 20 = .ok (.ireturn, 1) := dk_172 (dk_at dksX0_provide_0 20 rfl rfl)
theorem dX0_provide_21 : decode cX0_provide 21 = .ok (.aload_n 0, 1) := dk_42 (dk_at dksX0_provide_0 21 rfl rfl)
theorem dX0_provide_22 : decode cX0_provide 22 = .ok (.invokevirtual 306, 3) := dk_182 1 50 (dk_at dksX0_provide_1 0 rfl rfl)
theorem dX0_provide_25 : decode cX0_provide 25 = .ok (.istore_n 3, 1) := dk_62 (dk_at dksX0_provide_1 3 rfl rfl)
theorem dX0_provide_26 : decode cX0_provide 26 = .ok (.iconst 1, 1) := dk_4 (dk_at dksX0_provide_1 4 rfl rfl)
theorem dX0_provide_27 : decode cX0_provide 27 = .ok (.istore 4, 2) := dk_54 4 (dk_at dksX0_provide_1 5 rfl rfl)
theorem dX0_provide_29 : decode cX0_provide 29 = .ok (.iload 4, 2) := dk_21 4 (dk_at dksX0_provide_1 7 rfl rfl)
theorem dX0_provide_31 : decode cX0_provide 31 = .ok (.iload_n 3, 1) := dk_29 (dk_at dksX0_provide_1 9 rfl rfl)
theorem dX0_provide_32 : decode cX0_provide 32 = .ok (.invokestatic 312, 3) := dk_184 1 56 (dk_at dksX0_provide_1 10 rfl rfl)
theorem dX0_provide_35 : decode cX0_provide 35 = .ok (.if_icmp .gt 69, 3) := dk_163 0 69 (dk_at dksX0_provide_1 13 rfl rfl)
theorem dX0_provide_38 : decode cX0_provide 38 = .ok (.iconst 1, 1) := dk_4 (dk_at dksX0_provide_1 16 rfl rfl)
theorem dX0_provide_39 : decode cX0_provide 39 = .ok (.istore 5, 2) := dk_54 5 (dk_at dksX0_provide_1 17 rfl rfl)
theorem dX0_provide_41 : decode cX0_provide 41 = .ok (.iload 5, 2) := dk_21 5 (dk_at dksX0_provide_1 19 rfl rfl)
theorem dX0_provide_43 : decode cX0_provide 43 = .ok (.iload_n 3, 1) := dk_29 (dk_at dksX0_provide_1 21 rfl rfl)
theorem dX0_provide_44 : decode cX0_provide 44 = .ok (.if_icmp .gt 54, 3) := dk_163 0 54 (dk_at dksX0_provide_2 0 rfl rfl)
theorem dX0_provide_47 : decode cX0_provide 47 = .ok (.iload 5, 2) := dk_21 5 (dk_at dksX0_provide_2 3 rfl rfl)
theorem dX0_provide_49 : decode cX0_provide 49 = .ok (.iload_n 3, 1) := dk_29 (dk_at dksX0_provide_2 5 rfl rfl)
theorem dX0_provide_50 : decode cX0_provide 50 = .ok (.iconst (-1), 1) := dk_2 (dk_at dksX0_provide_2 6 rfl rfl)
theorem dX0_provide_51 : decode cX0_provide 51 = .ok (.ixor, 1) := dk_130 (dk_at dksX0_provide_2 7 rfl rfl)
theorem dX0_provide_52 : decode cX0_provide 52 = .ok (.iand, 1) := dk_126 (dk_at dksX0_provide_2 8 rfl rfl)
theorem dX0_provide_53 : decode cX0_provide 53 = .ok (.ifCond .ne 39, 3) := dk_154 0 39 (dk_at dksX0_provide_2 9 rfl rfl)
theorem dX0_provide_56 : decode cX0_provide 56 = .ok (.iload 5, 2) := dk_21 5 (dk_at dksX0_provide_2 12 rfl rfl)
theorem dX0_provide_58 : decode cX0_provide 58 = .ok (.invokestatic 312, 3) := dk_184 1 56 (dk_at dksX0_provide_2 14 rfl rfl)
theorem dX0_provide_61 : decode cX0_provide 61 = .ok (.iload 4, 2) := dk_21 4 (dk_at dksX0_provide_2 17 rfl rfl)
theorem dX0_provide_63 : decode cX0_provide 63 = .ok (.if_icmp .ne 29, 3) := dk_160 0 29 (dk_at dksX0_provide_2 19 rfl rfl)
theorem dX0_provide_66 : decode cX0_provide 66 = .ok (.aload_n 0, 1) := dk_42 (dk_at dksX0_provide_2 22 rfl rfl)
theorem dX0_provide_67 : decode cX0_provide 67 = .ok (.iload 5, 2) := dk_21 5 (dk_at dksX0_provide_3 0 rfl rfl)
theorem dX0_provide_69 : decode cX0_provide 69 = .ok (.iload_n 1, 1) := dk_27 (dk_at dksX0_provide_3 2 rfl rfl)
theorem dX0_provide_70 : decode cX0_provide 70 = .ok (.invokevirtual 309, 3) := dk_182 1 53 (dk_at dksX0_provide_3 3 rfl rfl)
theorem dX0_provide_73 : decode cX0_provide 73 = .ok (.iload_n 1, 1) := dk_27 (dk_at dksX0_provide_3 6 rfl rfl)
theorem dX0_provide_74 : decode cX0_provide 74 = .ok (.if_icmp .gt 6, 3) := dk_163 0 6 (dk_at dksX0_provide_3 7 rfl rfl)
theorem dX0_provide_77 : decode cX0_provide 77 = .ok (.goto 15, 3) := dk_167 0 15 (dk_at dksX0_provide_3 10 rfl rfl)
theorem dX0_provide_80 : decode cX0_provide 80 = .ok (.iload_n 2, 1) := dk_28 (dk_at dksX0_provide_3 13 rfl rfl)
theorem dX0_provide_81 : decode cX0_provide 81 = .ok (.ifCond .ne 8, 3) := dk_154 0 8 (dk_at dksX0_provide_3 14 rfl rfl)
theorem dX0_provide_84 : decode cX0_provide 84 = .ok (.iload 4, 2) := dk_21 4 (dk_at dksX0_provide_3 17 rfl rfl)
theorem dX0_provide_86 : decode cX0_provide 86 = .ok (.goto 5, 3) := dk_167 0 5 (dk_at dksX0_provide_3 19 rfl rfl)
theorem dX0_provide_89 : decode cX0_provide 89 = .ok (.iload 5, 2) := dk_21 5 (dk_at dksX0_provide_3 22 rfl rfl)
theorem dX0_provide_91 : decode cX0_provide 91 = .ok (.ireturn, 1) := dk_172 (dk_at dksX0_provide_4 0 rfl rfl)
theorem dX0_provide_92 : decode cX0_provide 92 = .ok (.iinc 5 1, 3) := dk_132 5 1 (dk_at dksX0_provide_4 1 rfl rfl)
theorem dX0_provide_95 : decode cX0_provide 95 = .ok (.goto (-54), 3) := dk_167 255 202 (dk_at dksX0_provide_4 4 rfl rfl)
theorem dX0_provide_98 : decode cX0_provide 98 = .ok (.iinc 4 1, 3) := dk_132 4 1 (dk_at dksX0_provide_4 7 rfl rfl)
theorem dX0_provide_101 : decode cX0_provide 101 = .ok (.goto (-72), 3) := dk_167 255 184 (dk_at dksX0_provide_4 10 rfl rfl)
theorem dX0_provide_104 : decode cX0_provide 104 = .ok (.iconst (-1), 1) := dk_2 (dk_at dksX0_provide_4 13 rfl rfl)
theorem dX0_provide_105 : decode cX0_provide 105 = .ok (.ireturn, 1) := dk_172 (dk_at dksX0_provide_4 14 rfl rfl)
abbrev cX0_waves : ByteArray := prog_1_method_46_code
def yX0_waves : MethodName := ⟨RX0, "waves", "(III)I"⟩
def dkwX0_waves_10 : List UInt8 := [21, 5, 184, 0, 252, 181, 0, 62, 21, 5, 172]
abbrev dktX0_waves_10 : List UInt8 := dkwX0_waves_10 ++ []
def dkwX0_waves_9 : List UInt8 := [182, 0, 84, 132, 8, 1, 167, 255, 118, 21, 6, 7, 104, 54, 6, 132, 7, 1, 167, 255, 91, 42, 3]
abbrev dktX0_waves_9 : List UInt8 := dkwX0_waves_9 ++ dktX0_waves_10
def dkwX0_waves_8 : List UInt8 := [27, 182, 0, 104, 192, 0, 145, 180, 0, 150, 29, 160, 0, 7, 21, 7, 54, 5, 42, 180, 0, 12, 25, 4]
abbrev dktX0_waves_8 : List UInt8 := dkwX0_waves_8 ++ dktX0_waves_9
def dkwX0_waves_7 : List UInt8 := [180, 0, 87, 27, 182, 0, 104, 192, 0, 145, 180, 0, 147, 28, 160, 0, 28, 42, 180, 0, 12, 180, 0, 87]
abbrev dktX0_waves_7 : List UInt8 := dkwX0_waves_7 ++ dktX0_waves_8
def dkwX0_waves_6 : List UInt8 := [180, 0, 12, 42, 180, 0, 38, 21, 9, 46, 182, 0, 202, 87, 132, 9, 1, 167, 255, 231, 42, 180, 0, 12]
abbrev dktX0_waves_6 : List UInt8 := dkwX0_waves_6 ++ dktX0_waves_7
def dkwX0_waves_5 : List UInt8 := [100, 104, 122, 6, 126, 79, 132, 9, 1, 167, 255, 225, 3, 54, 9, 21, 9, 21, 7, 162, 0, 24, 42]
abbrev dktX0_waves_5 : List UInt8 := dkwX0_waves_5 ++ dktX0_waves_6
def dkwX0_waves_4 : List UInt8 := [54, 9, 21, 9, 21, 7, 162, 0, 30, 42, 180, 0, 38, 21, 9, 21, 8, 5, 21, 7, 4, 100, 21, 9]
abbrev dktX0_waves_4 : List UInt8 := dkwX0_waves_4 ++ dktX0_waves_5
def dkwX0_waves_3 : List UInt8 := [163, 0, 164, 21, 5, 156, 0, 159, 3, 54, 8, 21, 8, 21, 6, 162, 0, 137, 21, 5, 156, 0, 132, 3]
abbrev dktX0_waves_3 : List UInt8 := dkwX0_waves_3 ++ dktX0_waves_4
def dkwX0_waves_2 : List UInt8 := [172, 42, 180, 0, 12, 182, 0, 76, 58, 4, 2, 54, 5, 4, 54, 6, 3, 54, 7, 21, 7, 16, 6]
abbrev dktX0_waves_2 : List UInt8 := dkwX0_waves_2 ++ dktX0_waves_3
def dkwX0_waves_1 : List UInt8 := [192, 0, 145, 180, 0, 153, 2, 160, 0, 15, 42, 180, 0, 12, 28, 29, 182, 1, 61, 154, 0, 6, 16, 254]
abbrev dktX0_waves_1 : List UInt8 := dkwX0_waves_1 ++ dktX0_waves_2
def dkwX0_waves_0 : List UInt8 := [42, 3, 181, 0, 62, 42, 27, 182, 0, 141, 153, 0, 36, 42, 180, 0, 12, 180, 0, 87, 27, 182, 0, 104]
abbrev dktX0_waves_0 : List UInt8 := dkwX0_waves_0 ++ dktX0_waves_1
theorem dksX0_waves_0 : cX0_waves.data.toList.drop 0 = dktX0_waves_0 := by decide +kernel
theorem dksX0_waves_1 : cX0_waves.data.toList.drop 24 = dktX0_waves_1 := dk_seg dksX0_waves_0 24 rfl rfl
theorem dksX0_waves_2 : cX0_waves.data.toList.drop 48 = dktX0_waves_2 := dk_seg dksX0_waves_1 24 rfl rfl
theorem dksX0_waves_3 : cX0_waves.data.toList.drop 71 = dktX0_waves_3 := dk_seg dksX0_waves_2 23 rfl rfl
theorem dksX0_waves_4 : cX0_waves.data.toList.drop 95 = dktX0_waves_4 := dk_seg dksX0_waves_3 24 rfl rfl
theorem dksX0_waves_5 : cX0_waves.data.toList.drop 119 = dktX0_waves_5 := dk_seg dksX0_waves_4 24 rfl rfl
theorem dksX0_waves_6 : cX0_waves.data.toList.drop 142 = dktX0_waves_6 := dk_seg dksX0_waves_5 23 rfl rfl
theorem dksX0_waves_7 : cX0_waves.data.toList.drop 166 = dktX0_waves_7 := dk_seg dksX0_waves_6 24 rfl rfl
theorem dksX0_waves_8 : cX0_waves.data.toList.drop 190 = dktX0_waves_8 := dk_seg dksX0_waves_7 24 rfl rfl
theorem dksX0_waves_9 : cX0_waves.data.toList.drop 214 = dktX0_waves_9 := dk_seg dksX0_waves_8 24 rfl rfl
theorem dksX0_waves_10 : cX0_waves.data.toList.drop 237 = dktX0_waves_10 := dk_seg dksX0_waves_9 23 rfl rfl
theorem dX0_waves_0 : decode cX0_waves 0 = .ok (.aload_n 0, 1) := dk_42 (dk_at dksX0_waves_0 0 rfl rfl)
theorem dX0_waves_1 : decode cX0_waves 1 = .ok (.iconst 0, 1) := dk_3 (dk_at dksX0_waves_0 1 rfl rfl)
theorem dX0_waves_2 : decode cX0_waves 2 = .ok (.putfield 62, 3) := dk_181 0 62 (dk_at dksX0_waves_0 2 rfl rfl)
theorem dX0_waves_5 : decode cX0_waves 5 = .ok (.aload_n 0, 1) := dk_42 (dk_at dksX0_waves_0 5 rfl rfl)
theorem dX0_waves_6 : decode cX0_waves 6 = .ok (.iload_n 1, 1) := dk_27 (dk_at dksX0_waves_0 6 rfl rfl)
theorem dX0_waves_7 : decode cX0_waves 7 = .ok (.invokevirtual 141, 3) := dk_182 0 141 (dk_at dksX0_waves_0 7 rfl rfl)
theorem dX0_waves_10 : decode cX0_waves 10 = .ok (.ifCond .eq 36, 3) := dk_153 0 36 (dk_at dksX0_waves_0 10 rfl rfl)
theorem dX0_waves_13 : decode cX0_waves 13 = .ok (.aload_n 0, 1) := dk_42 (dk_at dksX0_waves_0 13 rfl rfl)
theorem dX0_waves_14 : decode cX0_waves 14 = .ok (.getfield 12, 3) := dk_180 0 12 (dk_at dksX0_waves_0 14 rfl rfl)
theorem dX0_waves_17 : decode cX0_waves 17 = .ok (.getfield 87, 3) := dk_180 0 87 (dk_at dksX0_waves_0 17 rfl rfl)
theorem dX0_waves_20 : decode cX0_waves 20 = .ok (.iload_n 1, 1) := dk_27 (dk_at dksX0_waves_0 20 rfl rfl)
theorem dX0_waves_21 : decode cX0_waves 21 = .ok (.invokevirtual 104, 3) := dk_182 0 104 (dk_at dksX0_waves_0 21 rfl rfl)
theorem dX0_waves_24 : decode cX0_waves 24 = .ok (.checkcast 145, 3) := dk_192 0 145 (dk_at dksX0_waves_1 0 rfl rfl)
theorem dX0_waves_27 : decode cX0_waves 27 = .ok (.getfield 153, 3) := dk_180 0 153 (dk_at dksX0_waves_1 3 rfl rfl)
theorem dX0_waves_30 : decode cX0_waves 30 = .ok (.iconst (-1), 1) := dk_2 (dk_at dksX0_waves_1 6 rfl rfl)
theorem dX0_waves_31 : decode cX0_waves 31 = .ok (.if_icmp .ne 15, 3) := dk_160 0 15 (dk_at dksX0_waves_1 7 rfl rfl)
theorem dX0_waves_34 : decode cX0_waves 34 = .ok (.aload_n 0, 1) := dk_42 (dk_at dksX0_waves_1 10 rfl rfl)
theorem dX0_waves_35 : decode cX0_waves 35 = .ok (.getfield 12, 3) := dk_180 0 12 (dk_at dksX0_waves_1 11 rfl rfl)
theorem dX0_waves_38 : decode cX0_waves 38 = .ok (.iload_n 2, 1) := dk_28 (dk_at dksX0_waves_1 14 rfl rfl)
theorem dX0_waves_39 : decode cX0_waves 39 = .ok (.iload_n 3, 1) := dk_29 (dk_at dksX0_waves_1 15 rfl rfl)
theorem dX0_waves_40 : decode cX0_waves 40 = .ok (.invokevirtual 317, 3) := dk_182 1 61 (dk_at dksX0_waves_1 16 rfl rfl)
theorem dX0_waves_43 : decode cX0_waves 43 = .ok (.ifCond .ne 6, 3) := dk_154 0 6 (dk_at dksX0_waves_1 19 rfl rfl)
theorem dX0_waves_46 : decode cX0_waves 46 = .ok (.bipush (-2), 2) := dk_16 254 (dk_at dksX0_waves_1 22 rfl rfl)
theorem dX0_waves_48 : decode cX0_waves 48 = .ok (.ireturn, 1) := dk_172 (dk_at dksX0_waves_2 0 rfl rfl)
theorem dX0_waves_49 : decode cX0_waves 49 = .ok (.aload_n 0, 1) := dk_42 (dk_at dksX0_waves_2 1 rfl rfl)
theorem dX0_waves_50 : decode cX0_waves 50 = .ok (.getfield 12, 3) := dk_180 0 12 (dk_at dksX0_waves_2 2 rfl rfl)
theorem dX0_waves_53 : decode cX0_waves 53 = .ok (.invokevirtual 76, 3) := dk_182 0 76 (dk_at dksX0_waves_2 5 rfl rfl)
theorem dX0_waves_56 : decode cX0_waves 56 = .ok (.astore 4, 2) := dk_58 4 (dk_at dksX0_waves_2 8 rfl rfl)
theorem dX0_waves_58 : decode cX0_waves 58 = .ok (.iconst (-1), 1) := dk_2 (dk_at dksX0_waves_2 10 rfl rfl)
theorem dX0_waves_59 : decode cX0_waves 59 = .ok (.istore 5, 2) := dk_54 5 (dk_at dksX0_waves_2 11 rfl rfl)
theorem dX0_waves_61 : decode cX0_waves 61 = .ok (.iconst 1, 1) := dk_4 (dk_at dksX0_waves_2 13 rfl rfl)
theorem dX0_waves_62 : decode cX0_waves 62 = .ok (.istore 6, 2) := dk_54 6 (dk_at dksX0_waves_2 14 rfl rfl)
theorem dX0_waves_64 : decode cX0_waves 64 = .ok (.iconst 0, 1) := dk_3 (dk_at dksX0_waves_2 16 rfl rfl)
theorem dX0_waves_65 : decode cX0_waves 65 = .ok (.istore 7, 2) := dk_54 7 (dk_at dksX0_waves_2 17 rfl rfl)
theorem dX0_waves_67 : decode cX0_waves 67 = .ok (.iload 7, 2) := dk_21 7 (dk_at dksX0_waves_2 19 rfl rfl)
theorem dX0_waves_69 : decode cX0_waves 69 = .ok (.bipush 6, 2) := dk_16 6 (dk_at dksX0_waves_2 21 rfl rfl)
theorem dX0_waves_71 : decode cX0_waves 71 = .ok (.if_icmp .gt 164, 3) := dk_163 0 164 (dk_at dksX0_waves_3 0 rfl rfl)
theorem dX0_waves_74 : decode cX0_waves 74 = .ok (.iload 5, 2) := dk_21 5 (dk_at dksX0_waves_3 3 rfl rfl)
theorem dX0_waves_76 : decode cX0_waves 76 = .ok (.ifCond .ge 159, 3) := dk_156 0 159 (dk_at dksX0_waves_3 5 rfl rfl)
theorem dX0_waves_79 : decode cX0_waves 79 = .ok (.iconst 0, 1) := dk_3 (dk_at dksX0_waves_3 8 rfl rfl)
theorem dX0_waves_80 : decode cX0_waves 80 = .ok (.istore 8, 2) := dk_54 8 (dk_at dksX0_waves_3 9 rfl rfl)
theorem dX0_waves_82 : decode cX0_waves 82 = .ok (.iload 8, 2) := dk_21 8 (dk_at dksX0_waves_3 11 rfl rfl)
theorem dX0_waves_84 : decode cX0_waves 84 = .ok (.iload 6, 2) := dk_21 6 (dk_at dksX0_waves_3 13 rfl rfl)
theorem dX0_waves_86 : decode cX0_waves 86 = .ok (.if_icmp .ge 137, 3) := dk_162 0 137 (dk_at dksX0_waves_3 15 rfl rfl)
theorem dX0_waves_89 : decode cX0_waves 89 = .ok (.iload 5, 2) := dk_21 5 (dk_at dksX0_waves_3 18 rfl rfl)
theorem dX0_waves_91 : decode cX0_waves 91 = .ok (.ifCond .ge 132, 3) := dk_156 0 132 (dk_at dksX0_waves_3 20 rfl rfl)
theorem dX0_waves_94 : decode cX0_waves 94 = .ok (.iconst 0, 1) := dk_3 (dk_at dksX0_waves_3 23 rfl rfl)
theorem dX0_waves_95 : decode cX0_waves 95 = .ok (.istore 9, 2) := dk_54 9 (dk_at dksX0_waves_4 0 rfl rfl)
theorem dX0_waves_97 : decode cX0_waves 97 = .ok (.iload 9, 2) := dk_21 9 (dk_at dksX0_waves_4 2 rfl rfl)
theorem dX0_waves_99 : decode cX0_waves 99 = .ok (.iload 7, 2) := dk_21 7 (dk_at dksX0_waves_4 4 rfl rfl)
theorem dX0_waves_101 : decode cX0_waves 101 = .ok (.if_icmp .ge 30, 3) := dk_162 0 30 (dk_at dksX0_waves_4 6 rfl rfl)
theorem dX0_waves_104 : decode cX0_waves 104 = .ok (.aload_n 0, 1) := dk_42 (dk_at dksX0_waves_4 9 rfl rfl)
theorem dX0_waves_105 : decode cX0_waves 105 = .ok (.getfield 38, 3) := dk_180 0 38 (dk_at dksX0_waves_4 10 rfl rfl)
theorem dX0_waves_108 : decode cX0_waves 108 = .ok (.iload 9, 2) := dk_21 9 (dk_at dksX0_waves_4 13 rfl rfl)
theorem dX0_waves_110 : decode cX0_waves 110 = .ok (.iload 8, 2) := dk_21 8 (dk_at dksX0_waves_4 15 rfl rfl)
theorem dX0_waves_112 : decode cX0_waves 112 = .ok (.iconst 2, 1) := dk_5 (dk_at dksX0_waves_4 17 rfl rfl)
theorem dX0_waves_113 : decode cX0_waves 113 = .ok (.iload 7, 2) := dk_21 7 (dk_at dksX0_waves_4 18 rfl rfl)
theorem dX0_waves_115 : decode cX0_waves 115 = .ok (.iconst 1, 1) := dk_4 (dk_at dksX0_waves_4 20 rfl rfl)
theorem dX0_waves_116 : decode cX0_waves 116 = .ok (.isub, 1) := dk_100 (dk_at dksX0_waves_4 21 rfl rfl)
theorem dX0_waves_117 : decode cX0_waves 117 = .ok (.iload 9, 2) := dk_21 9 (dk_at dksX0_waves_4 22 rfl rfl)
theorem dX0_waves_119 : decode cX0_waves 119 = .ok (.isub, 1) := dk_100 (dk_at dksX0_waves_5 0 rfl rfl)
theorem dX0_waves_120 : decode cX0_waves 120 = .ok (.imul, 1) := dk_104 (dk_at dksX0_waves_5 1 rfl rfl)
theorem dX0_waves_121 : decode cX0_waves 121 = .ok (.ishr, 1) := dk_122 (dk_at dksX0_waves_5 2 rfl rfl)
theorem dX0_waves_122 : decode cX0_waves 122 = .ok (.iconst 3, 1) := dk_6 (dk_at dksX0_waves_5 3 rfl rfl)
theorem dX0_waves_123 : decode cX0_waves 123 = .ok (.iand, 1) := dk_126 (dk_at dksX0_waves_5 4 rfl rfl)
theorem dX0_waves_124 : decode cX0_waves 124 = .ok (.iastore, 1) := dk_79 (dk_at dksX0_waves_5 5 rfl rfl)
theorem dX0_waves_125 : decode cX0_waves 125 = .ok (.iinc 9 1, 3) := dk_132 9 1 (dk_at dksX0_waves_5 6 rfl rfl)
theorem dX0_waves_128 : decode cX0_waves 128 = .ok (.goto (-31), 3) := dk_167 255 225 (dk_at dksX0_waves_5 9 rfl rfl)
theorem dX0_waves_131 : decode cX0_waves 131 = .ok (.iconst 0, 1) := dk_3 (dk_at dksX0_waves_5 12 rfl rfl)
theorem dX0_waves_132 : decode cX0_waves 132 = .ok (.istore 9, 2) := dk_54 9 (dk_at dksX0_waves_5 13 rfl rfl)
theorem dX0_waves_134 : decode cX0_waves 134 = .ok (.iload 9, 2) := dk_21 9 (dk_at dksX0_waves_5 15 rfl rfl)
theorem dX0_waves_136 : decode cX0_waves 136 = .ok (.iload 7, 2) := dk_21 7 (dk_at dksX0_waves_5 17 rfl rfl)
theorem dX0_waves_138 : decode cX0_waves 138 = .ok (.if_icmp .ge 24, 3) := dk_162 0 24 (dk_at dksX0_waves_5 19 rfl rfl)
theorem dX0_waves_141 : decode cX0_waves 141 = .ok (.aload_n 0, 1) := dk_42 (dk_at dksX0_waves_5 22 rfl rfl)
theorem dX0_waves_142 : decode cX0_waves 142 = .ok (.getfield 12, 3) := dk_180 0 12 (dk_at dksX0_waves_6 0 rfl rfl)
theorem dX0_waves_145 : decode cX0_waves 145 = .ok (.aload_n 0, 1) := dk_42 (dk_at dksX0_waves_6 3 rfl rfl)
theorem dX0_waves_146 : decode cX0_waves 146 = .ok (.getfield 38, 3) := dk_180 0 38 (dk_at dksX0_waves_6 4 rfl rfl)
theorem dX0_waves_149 : decode cX0_waves 149 = .ok (.iload 9, 2) := dk_21 9 (dk_at dksX0_waves_6 7 rfl rfl)
theorem dX0_waves_151 : decode cX0_waves 151 = .ok (.iaload, 1) := dk_46 (dk_at dksX0_waves_6 9 rfl rfl)
theorem dX0_waves_152 : decode cX0_waves 152 = .ok (.invokevirtual 202, 3) := dk_182 0 202 (dk_at dksX0_waves_6 10 rfl rfl)
theorem dX0_waves_155 : decode cX0_waves 155 = .ok (.pop, 1) := dk_87 (dk_at dksX0_waves_6 13 rfl rfl)
theorem dX0_waves_156 : decode cX0_waves 156 = .ok (.iinc 9 1, 3) := dk_132 9 1 (dk_at dksX0_waves_6 14 rfl rfl)
theorem dX0_waves_159 : decode cX0_waves 159 = .ok (.goto (-25), 3) := dk_167 255 231 (dk_at dksX0_waves_6 17 rfl rfl)
theorem dX0_waves_162 : decode cX0_waves 162 = .ok (.aload_n 0, 1) := dk_42 (dk_at dksX0_waves_6 20 rfl rfl)
theorem dX0_waves_163 : decode cX0_waves 163 = .ok (.getfield 12, 3) := dk_180 0 12 (dk_at dksX0_waves_6 21 rfl rfl)
theorem dX0_waves_166 : decode cX0_waves 166 = .ok (.getfield 87, 3) := dk_180 0 87 (dk_at dksX0_waves_7 0 rfl rfl)
theorem dX0_waves_169 : decode cX0_waves 169 = .ok (.iload_n 1, 1) := dk_27 (dk_at dksX0_waves_7 3 rfl rfl)
theorem dX0_waves_170 : decode cX0_waves 170 = .ok (.invokevirtual 104, 3) := dk_182 0 104 (dk_at dksX0_waves_7 4 rfl rfl)
theorem dX0_waves_173 : decode cX0_waves 173 = .ok (.checkcast 145, 3) := dk_192 0 145 (dk_at dksX0_waves_7 7 rfl rfl)
theorem dX0_waves_176 : decode cX0_waves 176 = .ok (.getfield 147, 3) := dk_180 0 147 (dk_at dksX0_waves_7 10 rfl rfl)
theorem dX0_waves_179 : decode cX0_waves 179 = .ok (.iload_n 2, 1) := dk_28 (dk_at dksX0_waves_7 13 rfl rfl)
theorem dX0_waves_180 : decode cX0_waves 180 = .ok (.if_icmp .ne 28, 3) := dk_160 0 28 (dk_at dksX0_waves_7 14 rfl rfl)
theorem dX0_waves_183 : decode cX0_waves 183 = .ok (.aload_n 0, 1) := dk_42 (dk_at dksX0_waves_7 17 rfl rfl)
theorem dX0_waves_184 : decode cX0_waves 184 = .ok (.getfield 12, 3) := dk_180 0 12 (dk_at dksX0_waves_7 18 rfl rfl)
theorem dX0_waves_187 : decode cX0_waves 187 = .ok (.getfield 87, 3) := dk_180 0 87 (dk_at dksX0_waves_7 21 rfl rfl)
theorem dX0_waves_190 : decode cX0_waves 190 = .ok (.iload_n 1, 1) := dk_27 (dk_at dksX0_waves_8 0 rfl rfl)
theorem dX0_waves_191 : decode cX0_waves 191 = .ok (.invokevirtual 104, 3) := dk_182 0 104 (dk_at dksX0_waves_8 1 rfl rfl)
theorem dX0_waves_194 : decode cX0_waves 194 = .ok (.checkcast 145, 3) := dk_192 0 145 (dk_at dksX0_waves_8 4 rfl rfl)
theorem dX0_waves_197 : decode cX0_waves 197 = .ok (.getfield 150, 3) := dk_180 0 150 (dk_at dksX0_waves_8 7 rfl rfl)
theorem dX0_waves_200 : decode cX0_waves 200 = .ok (.iload_n 3, 1) := dk_29 (dk_at dksX0_waves_8 10 rfl rfl)
theorem dX0_waves_201 : decode cX0_waves 201 = .ok (.if_icmp .ne 7, 3) := dk_160 0 7 (dk_at dksX0_waves_8 11 rfl rfl)
theorem dX0_waves_204 : decode cX0_waves 204 = .ok (.iload 7, 2) := dk_21 7 (dk_at dksX0_waves_8 14 rfl rfl)
theorem dX0_waves_206 : decode cX0_waves 206 = .ok (.istore 5, 2) := dk_54 5 (dk_at dksX0_waves_8 16 rfl rfl)
theorem dX0_waves_208 : decode cX0_waves 208 = .ok (.aload_n 0, 1) := dk_42 (dk_at dksX0_waves_8 18 rfl rfl)
theorem dX0_waves_209 : decode cX0_waves 209 = .ok (.getfield 12, 3) := dk_180 0 12 (dk_at dksX0_waves_8 19 rfl rfl)
theorem dX0_waves_212 : decode cX0_waves 212 = .ok (.aload 4, 2) := dk_25 4 (dk_at dksX0_waves_8 22 rfl rfl)
theorem dX0_waves_214 : decode cX0_waves 214 = .ok (.invokevirtual 84, 3) := dk_182 0 84 (dk_at dksX0_waves_9 0 rfl rfl)
theorem dX0_waves_217 : decode cX0_waves 217 = .ok (.iinc 8 1, 3) := dk_132 8 1 (dk_at dksX0_waves_9 3 rfl rfl)
theorem dX0_waves_220 : decode cX0_waves 220 = .ok (.goto (-138), 3) := dk_167 255 118 (dk_at dksX0_waves_9 6 rfl rfl)
theorem dX0_waves_223 : decode cX0_waves 223 = .ok (.iload 6, 2) := dk_21 6 (dk_at dksX0_waves_9 9 rfl rfl)
theorem dX0_waves_225 : decode cX0_waves 225 = .ok (.iconst 4, 1) := dk_7 (dk_at dksX0_waves_9 11 rfl rfl)
theorem dX0_waves_226 : decode cX0_waves 226 = .ok (.imul, 1) := dk_104 (dk_at dksX0_waves_9 12 rfl rfl)
theorem dX0_waves_227 : decode cX0_waves 227 = .ok (.istore 6, 2) := dk_54 6 (dk_at dksX0_waves_9 13 rfl rfl)
theorem dX0_waves_229 : decode cX0_waves 229 = .ok (.iinc 7 1, 3) := dk_132 7 1 (dk_at dksX0_waves_9 15 rfl rfl)
theorem dX0_waves_232 : decode cX0_waves 232 = .ok (.goto (-165), 3) := dk_167 255 91 (dk_at dksX0_waves_9 18 rfl rfl)
theorem dX0_waves_235 : decode cX0_waves 235 = .ok (.aload_n 0, 1) := dk_42 (dk_at dksX0_waves_9 21 rfl rfl)
theorem dX0_waves_236 : decode cX0_waves 236 = .ok (.iconst 0, 1) := dk_3 (dk_at dksX0_waves_9 22 rfl rfl)
theorem dX0_waves_237 : decode cX0_waves 237 = .ok (.iload 5, 2) := dk_21 5 (dk_at dksX0_waves_10 0 rfl rfl)
theorem dX0_waves_239 : decode cX0_waves 239 = .ok (.invokestatic 252, 3) := dk_184 0 252 (dk_at dksX0_waves_10 2 rfl rfl)
theorem dX0_waves_242 : decode cX0_waves 242 = .ok (.putfield 62, 3) := dk_181 0 62 (dk_at dksX0_waves_10 5 rfl rfl)
theorem dX0_waves_245 : decode cX0_waves 245 = .ok (.iload 5, 2) := dk_21 5 (dk_at dksX0_waves_10 8 rfl rfl)
theorem dX0_waves_247 : decode cX0_waves 247 = .ok (.ireturn, 1) := dk_172 (dk_at dksX0_waves_10 10 rfl rfl)
abbrev cX0_fill : ByteArray := prog_1_method_48_code
def yX0_fill : MethodName := ⟨RX0, "fill", "(III)I"⟩
def dkwX0_fill_10 : List UInt8 := [29, 154, 0, 8, 21, 4, 167, 0, 5, 21, 5, 172]
abbrev dktX0_fill_10 : List UInt8 := dkwX0_fill_10 ++ []
def dkwX0_fill_9 : List UInt8 := [21, 8, 21, 5, 163, 0, 6, 167, 0, 11, 21, 6, 54, 4, 21, 8, 54, 5, 132, 6, 1, 167, 255, 66]
abbrev dktX0_fill_9 : List UInt8 := dkwX0_fill_9 ++ dktX0_fill_10
def dkwX0_fill_8 : List UInt8 := [167, 0, 4, 3, 54, 9, 132, 10, 1, 167, 255, 130, 21, 9, 153, 0, 27, 21, 7, 28, 163, 0, 21]
abbrev dktX0_fill_8 : List UInt8 := dkwX0_fill_8 ++ dktX0_fill_9
def dkwX0_fill_7 : List UInt8 := [180, 0, 12, 180, 0, 87, 21, 10, 182, 0, 104, 192, 0, 145, 180, 0, 153, 2, 160, 0, 7, 4]
abbrev dktX0_fill_7 : List UInt8 := dkwX0_fill_7 ++ dktX0_fill_8
def dkwX0_fill_6 : List UInt8 := [180, 0, 87, 21, 10, 182, 0, 104, 192, 0, 145, 182, 1, 64, 96, 54, 8, 21, 9, 153, 0, 29, 42]
abbrev dktX0_fill_6 : List UInt8 := dkwX0_fill_6 ++ dktX0_fill_7
def dkwX0_fill_5 : List UInt8 := [54, 7, 21, 8, 42, 42, 180, 0, 12, 180, 0, 94, 27, 182, 0, 104, 192, 0, 107, 42, 180, 0, 12]
abbrev dktX0_fill_5 : List UInt8 := dkwX0_fill_5 ++ dktX0_fill_6
def dkwX0_fill_4 : List UInt8 := [167, 0, 98, 21, 7, 42, 180, 0, 12, 180, 0, 87, 21, 10, 182, 0, 104, 192, 0, 145, 180, 0, 159, 96]
abbrev dktX0_fill_4 : List UInt8 := dkwX0_fill_4 ++ dktX0_fill_5
def dkwX0_fill_3 : List UInt8 := [42, 180, 0, 12, 180, 0, 87, 182, 0, 68, 162, 0, 117, 21, 6, 21, 10, 122, 4, 126, 154, 0, 6]
abbrev dktX0_fill_3 : List UInt8 := dkwX0_fill_3 ++ dktX0_fill_4
def dkwX0_fill_2 : List UInt8 := [180, 0, 87, 182, 0, 68, 120, 162, 0, 179, 3, 54, 7, 3, 54, 8, 4, 54, 9, 3, 54, 10, 21, 10]
abbrev dktX0_fill_2 : List UInt8 := dkwX0_fill_2 ++ dktX0_fill_3
def dkwX0_fill_1 : List UInt8 := [184, 0, 90, 154, 0, 5, 2, 172, 3, 54, 4, 3, 54, 5, 4, 54, 6, 21, 6, 4, 42, 180, 0, 12]
abbrev dktX0_fill_1 : List UInt8 := dkwX0_fill_1 ++ dktX0_fill_2
def dkwX0_fill_0 : List UInt8 := [42, 27, 182, 0, 161, 153, 0, 23, 28, 3, 17, 3, 231, 184, 0, 90, 153, 0, 12, 29, 3, 4]
abbrev dktX0_fill_0 : List UInt8 := dkwX0_fill_0 ++ dktX0_fill_1
theorem dksX0_fill_0 : cX0_fill.data.toList.drop 0 = dktX0_fill_0 := by decide +kernel
theorem dksX0_fill_1 : cX0_fill.data.toList.drop 22 = dktX0_fill_1 := dk_seg dksX0_fill_0 22 rfl rfl
theorem dksX0_fill_2 : cX0_fill.data.toList.drop 46 = dktX0_fill_2 := dk_seg dksX0_fill_1 24 rfl rfl
theorem dksX0_fill_3 : cX0_fill.data.toList.drop 70 = dktX0_fill_3 := dk_seg dksX0_fill_2 24 rfl rfl
theorem dksX0_fill_4 : cX0_fill.data.toList.drop 93 = dktX0_fill_4 := dk_seg dksX0_fill_3 23 rfl rfl
theorem dksX0_fill_5 : cX0_fill.data.toList.drop 117 = dktX0_fill_5 := dk_seg dksX0_fill_4 24 rfl rfl
theorem dksX0_fill_6 : cX0_fill.data.toList.drop 140 = dktX0_fill_6 := dk_seg dksX0_fill_5 23 rfl rfl
theorem dksX0_fill_7 : cX0_fill.data.toList.drop 163 = dktX0_fill_7 := dk_seg dksX0_fill_6 23 rfl rfl
theorem dksX0_fill_8 : cX0_fill.data.toList.drop 185 = dktX0_fill_8 := dk_seg dksX0_fill_7 22 rfl rfl
theorem dksX0_fill_9 : cX0_fill.data.toList.drop 208 = dktX0_fill_9 := dk_seg dksX0_fill_8 23 rfl rfl
theorem dksX0_fill_10 : cX0_fill.data.toList.drop 232 = dktX0_fill_10 := dk_seg dksX0_fill_9 24 rfl rfl
theorem dX0_fill_0 : decode cX0_fill 0 = .ok (.aload_n 0, 1) := dk_42 (dk_at dksX0_fill_0 0 rfl rfl)
theorem dX0_fill_1 : decode cX0_fill 1 = .ok (.iload_n 1, 1) := dk_27 (dk_at dksX0_fill_0 1 rfl rfl)
theorem dX0_fill_2 : decode cX0_fill 2 = .ok (.invokevirtual 161, 3) := dk_182 0 161 (dk_at dksX0_fill_0 2 rfl rfl)
theorem dX0_fill_5 : decode cX0_fill 5 = .ok (.ifCond .eq 23, 3) := dk_153 0 23 (dk_at dksX0_fill_0 5 rfl rfl)
theorem dX0_fill_8 : decode cX0_fill 8 = .ok (.iload_n 2, 1) := dk_28 (dk_at dksX0_fill_0 8 rfl rfl)
theorem dX0_fill_9 : decode cX0_fill 9 = .ok (.iconst 0, 1) := dk_3 (dk_at dksX0_fill_0 9 rfl rfl)
theorem dX0_fill_10 : decode cX0_fill 10 = .ok (.sipush 999, 3) := dk_17 3 231 (dk_at dksX0_fill_0 10 rfl rfl)
theorem dX0_fill_13 : decode cX0_fill 13 = .ok (.invokestatic 90, 3) := dk_184 0 90 (dk_at dksX0_fill_0 13 rfl rfl)
theorem dX0_fill_16 : decode cX0_fill 16 = .ok (.ifCond .eq 12, 3) := dk_153 0 12 (dk_at dksX0_fill_0 16 rfl rfl)
theorem dX0_fill_19 : decode cX0_fill 19 = .ok (.iload_n 3, 1) := dk_29 (dk_at dksX0_fill_0 19 rfl rfl)
theorem dX0_fill_20 : decode cX0_fill 20 = .ok (.iconst 0, 1) := dk_3 (dk_at dksX0_fill_0 20 rfl rfl)
theorem dX0_fill_21 : decode cX0_fill 21 = .ok (.iconst 1, 1) := dk_4 (dk_at dksX0_fill_0 21 rfl rfl)
theorem dX0_fill_22 : decode cX0_fill 22 = .ok (.invokestatic 90, 3) := dk_184 0 90 (dk_at dksX0_fill_1 0 rfl rfl)
theorem dX0_fill_25 : decode cX0_fill 25 = .ok (.ifCond .ne 5, 3) := dk_154 0 5 (dk_at dksX0_fill_1 3 rfl rfl)
theorem dX0_fill_28 : decode cX0_fill 28 = .ok (.iconst (-1), 1) := dk_2 (dk_at dksX0_fill_1 6 rfl rfl)
theorem dX0_fill_29 : decode cX0_fill 29 = .ok (.ireturn, 1) := dk_172 (dk_at dksX0_fill_1 7 rfl rfl)
theorem dX0_fill_30 : decode cX0_fill 30 = .ok (.iconst 0, 1) := dk_3 (dk_at dksX0_fill_1 8 rfl rfl)
theorem dX0_fill_31 : decode cX0_fill 31 = .ok (.istore 4, 2) := dk_54 4 (dk_at dksX0_fill_1 9 rfl rfl)
theorem dX0_fill_33 : decode cX0_fill 33 = .ok (.iconst 0, 1) := dk_3 (dk_at dksX0_fill_1 11 rfl rfl)
theorem dX0_fill_34 : decode cX0_fill 34 = .ok (.istore 5, 2) := dk_54 5 (dk_at dksX0_fill_1 12 rfl rfl)
theorem dX0_fill_36 : decode cX0_fill 36 = .ok (.iconst 1, 1) := dk_4 (dk_at dksX0_fill_1 14 rfl rfl)
theorem dX0_fill_37 : decode cX0_fill 37 = .ok (.istore 6, 2) := dk_54 6 (dk_at dksX0_fill_1 15 rfl rfl)
theorem dX0_fill_39 : decode cX0_fill 39 = .ok (.iload 6, 2) := dk_21 6 (dk_at dksX0_fill_1 17 rfl rfl)
theorem dX0_fill_41 : decode cX0_fill 41 = .ok (.iconst 1, 1) := dk_4 (dk_at dksX0_fill_1 19 rfl rfl)
theorem dX0_fill_42 : decode cX0_fill 42 = .ok (.aload_n 0, 1) := dk_42 (dk_at dksX0_fill_1 20 rfl rfl)
theorem dX0_fill_43 : decode cX0_fill 43 = .ok (.getfield 12, 3) := dk_180 0 12 (dk_at dksX0_fill_1 21 rfl rfl)
theorem dX0_fill_46 : decode cX0_fill 46 = .ok (.getfield 87, 3) := dk_180 0 87 (dk_at dksX0_fill_2 0 rfl rfl)
theorem dX0_fill_49 : decode cX0_fill 49 = .ok (.invokevirtual 68, 3) := dk_182 0 68 (dk_at dksX0_fill_2 3 rfl rfl)
theorem dX0_fill_52 : decode cX0_fill 52 = .ok (.ishl, 1) := dk_120 (dk_at dksX0_fill_2 6 rfl rfl)
theorem dX0_fill_53 : decode cX0_fill 53 = .ok (.if_icmp .ge 179, 3) := dk_162 0 179 (dk_at dksX0_fill_2 7 rfl rfl)
theorem dX0_fill_56 : decode cX0_fill 56 = .ok (.iconst 0, 1) := dk_3 (dk_at dksX0_fill_2 10 rfl rfl)
theorem dX0_fill_57 : decode cX0_fill 57 = .ok (.istore 7, 2) := dk_54 7 (dk_at dksX0_fill_2 11 rfl rfl)
theorem dX0_fill_59 : decode cX0_fill 59 = .ok (.iconst 0, 1) := dk_3 (dk_at dksX0_fill_2 13 rfl rfl)
theorem dX0_fill_60 : decode cX0_fill 60 = .ok (.istore 8, 2) := dk_54 8 (dk_at dksX0_fill_2 14 rfl rfl)
theorem dX0_fill_62 : decode cX0_fill 62 = .ok (.iconst 1, 1) := dk_4 (dk_at dksX0_fill_2 16 rfl rfl)
theorem dX0_fill_63 : decode cX0_fill 63 = .ok (.istore 9, 2) := dk_54 9 (dk_at dksX0_fill_2 17 rfl rfl)
theorem dX0_fill_65 : decode cX0_fill 65 = .ok (.iconst 0, 1) := dk_3 (dk_at dksX0_fill_2 19 rfl rfl)
theorem dX0_fill_66 : decode cX0_fill 66 = .ok (.istore 10, 2) := dk_54 10 (dk_at dksX0_fill_2 20 rfl rfl)
theorem dX0_fill_68 : decode cX0_fill 68 = .ok (.iload 10, 2) := dk_21 10 (dk_at dksX0_fill_2 22 rfl rfl)
theorem dX0_fill_70 : decode cX0_fill 70 = .ok (.aload_n 0, 1) := dk_42 (dk_at dksX0_fill_3 0 rfl rfl)
theorem dX0_fill_71 : decode cX0_fill 71 = .ok (.getfield 12, 3) := dk_180 0 12 (dk_at dksX0_fill_3 1 rfl rfl)
theorem dX0_fill_74 : decode cX0_fill 74 = .ok (.getfield 87, 3) := dk_180 0 87 (dk_at dksX0_fill_3 4 rfl rfl)
theorem dX0_fill_77 : decode cX0_fill 77 = .ok (.invokevirtual 68, 3) := dk_182 0 68 (dk_at dksX0_fill_3 7 rfl rfl)
theorem dX0_fill_80 : decode cX0_fill 80 = .ok (.if_icmp .ge 117, 3) := dk_162 0 117 (dk_at dksX0_fill_3 10 rfl rfl)
theorem dX0_fill_83 : decode cX0_fill 83 = .ok (.iload 6, 2) := dk_21 6 (dk_at dksX0_fill_3 13 rfl rfl)
theorem dX0_fill_85 : decode cX0_fill 85 = .ok (.iload 10, 2) := dk_21 10 (dk_at dksX0_fill_3 15 rfl rfl)
theorem dX0_fill_87 : decode cX0_fill 87 = .ok (.ishr, 1) := dk_122 (dk_at dksX0_fill_3 17 rfl rfl)
theorem dX0_fill_88 : decode cX0_fill 88 = .ok (.iconst 1, 1) := dk_4 (dk_at dksX0_fill_3 18 rfl rfl)
theorem dX0_fill_89 : decode cX0_fill 89 = .ok (.iand, 1) := dk_126 (dk_at dksX0_fill_3 19 rfl rfl)
theorem dX0_fill_90 : decode cX0_fill 90 = .ok (.ifCond .ne 6, 3) := dk_154 0 6 (dk_at dksX0_fill_3 20 rfl rfl)
theorem dX0_fill_93 : decode cX0_fill 93 = .ok (.goto 98, 3) := dk_167 0 98 (dk_at dksX0_fill_4 0 rfl rfl)
theorem dX0_fill_96 : decode cX0_fill 96 = .ok (.iload 7, 2) := dk_21 7 (dk_at dksX0_fill_4 3 rfl rfl)
theorem dX0_fill_98 : decode cX0_fill 98 = .ok (.aload_n 0, 1) := dk_42 (dk_at dksX0_fill_4 5 rfl rfl)
theorem dX0_fill_99 : decode cX0_fill 99 = .ok (.getfield 12, 3) := dk_180 0 12 (dk_at dksX0_fill_4 6 rfl rfl)
theorem dX0_fill_102 : decode cX0_fill 102 = .ok (.getfield 87, 3) := dk_180 0 87 (dk_at dksX0_fill_4 9 rfl rfl)
theorem dX0_fill_105 : decode cX0_fill 105 = .ok (.iload 10, 2) := dk_21 10 (dk_at dksX0_fill_4 12 rfl rfl)
theorem dX0_fill_107 : decode cX0_fill 107 = .ok (.invokevirtual 104, 3) := dk_182 0 104 (dk_at dksX0_fill_4 14 rfl rfl)
theorem dX0_fill_110 : decode cX0_fill 110 = .ok (.checkcast 145, 3) := dk_192 0 145 (dk_at dksX0_fill_4 17 rfl rfl)
theorem dX0_fill_113 : decode cX0_fill 113 = .ok (.getfield 159, 3) := dk_180 0 159 (dk_at dksX0_fill_4 20 rfl rfl)
theorem dX0_fill_116 : decode cX0_fill 116 = .ok (.iadd, 1) := dk_96 (dk_at dksX0_fill_4 23 rfl rfl)
theorem dX0_fill_117 : decode cX0_fill 117 = .ok (.istore 7, 2) := dk_54 7 (dk_at dksX0_fill_5 0 rfl rfl)
theorem dX0_fill_119 : decode cX0_fill 119 = .ok (.iload 8, 2) := dk_21 8 (dk_at dksX0_fill_5 2 rfl rfl)
theorem dX0_fill_121 : decode cX0_fill 121 = .ok (.aload_n 0, 1) := dk_42 (dk_at dksX0_fill_5 4 rfl rfl)
theorem dX0_fill_122 : decode cX0_fill 122 = .ok (.aload_n 0, 1) := dk_42 (dk_at dksX0_fill_5 5 rfl rfl)
theorem dX0_fill_123 : decode cX0_fill 123 = .ok (.getfield 12, 3) := dk_180 0 12 (dk_at dksX0_fill_5 6 rfl rfl)
theorem dX0_fill_126 : decode cX0_fill 126 = .ok (.getfield 94, 3) := dk_180 0 94 (dk_at dksX0_fill_5 9 rfl rfl)
theorem dX0_fill_129 : decode cX0_fill 129 = .ok (.iload_n 1, 1) := dk_27 (dk_at dksX0_fill_5 12 rfl rfl)
theorem dX0_fill_130 : decode cX0_fill 130 = .ok (.invokevirtual 104, 3) := dk_182 0 104 (dk_at dksX0_fill_5 13 rfl rfl)
theorem dX0_fill_133 : decode cX0_fill 133 = .ok (.checkcast 107, 3) := dk_192 0 107 (dk_at dksX0_fill_5 16 rfl rfl)
theorem dX0_fill_136 : decode cX0_fill 136 = .ok (.aload_n 0, 1) := dk_42 (dk_at dksX0_fill_5 19 rfl rfl)
theorem dX0_fill_137 : decode cX0_fill 137 = .ok (.getfield 12, 3) := dk_180 0 12 (dk_at dksX0_fill_5 20 rfl rfl)
theorem dX0_fill_140 : decode cX0_fill 140 = .ok (.getfield 87, 3) := dk_180 0 87 (dk_at dksX0_fill_6 0 rfl rfl)
theorem dX0_fill_143 : decode cX0_fill 143 = .ok (.iload 10, 2) := dk_21 10 (dk_at dksX0_fill_6 3 rfl rfl)
theorem dX0_fill_145 : decode cX0_fill 145 = .ok (.invokevirtual 104, 3) := dk_182 0 104 (dk_at dksX0_fill_6 5 rfl rfl)
theorem dX0_fill_148 : decode cX0_fill 148 = .ok (.checkcast 145, 3) := dk_192 0 145 (dk_at dksX0_fill_6 8 rfl rfl)
theorem dX0_fill_151 : decode cX0_fill 151 = .ok (.invokevirtual 320, 3) := dk_182 1 64 (dk_at dksX0_fill_6 11 rfl rfl)
theorem dX0_fill_154 : decode cX0_fill 154 = .ok (.iadd, 1) := dk_96 (dk_at dksX0_fill_6 14 rfl rfl)
theorem dX0_fill_155 : decode cX0_fill 155 = .ok (.istore 8, 2) := dk_54 8 (dk_at dksX0_fill_6 15 rfl rfl)
theorem dX0_fill_157 : decode cX0_fill 157 = .ok (.iload 9, 2) := dk_21 9 (dk_at dksX0_fill_6 17 rfl rfl)
theorem dX0_fill_159 : decode cX0_fill 159 = .ok (.ifCond .eq 29, 3) := dk_153 0 29 (dk_at dksX0_fill_6 19 rfl rfl)
theorem dX0_fill_162 : decode cX0_fill 162 = .ok (.aload_n 0, 1) := dk_42 (dk_at dksX0_fill_6 22 rfl rfl)
theorem dX0_fill_163 : decode cX0_fill 163 = .ok (.getfield 12, 3) := dk_180 0 12 (dk_at dksX0_fill_7 0 rfl rfl)
theorem dX0_fill_166 : decode cX0_fill 166 = .ok (.getfield 87, 3) := dk_180 0 87 (dk_at dksX0_fill_7 3 rfl rfl)
theorem dX0_fill_169 : decode cX0_fill 169 = .ok (.iload 10, 2) := dk_21 10 (dk_at dksX0_fill_7 6 rfl rfl)
theorem dX0_fill_171 : decode cX0_fill 171 = .ok (.invokevirtual 104, 3) := dk_182 0 104 (dk_at dksX0_fill_7 8 rfl rfl)
theorem dX0_fill_174 : decode cX0_fill 174 = .ok (.checkcast 145, 3) := dk_192 0 145 (dk_at dksX0_fill_7 11 rfl rfl)
theorem dX0_fill_177 : decode cX0_fill 177 = .ok (.getfield 153, 3) := dk_180 0 153 (dk_at dksX0_fill_7 14 rfl rfl)
theorem dX0_fill_180 : decode cX0_fill 180 = .ok (.iconst (-1), 1) := dk_2 (dk_at dksX0_fill_7 17 rfl rfl)
theorem dX0_fill_181 : decode cX0_fill 181 = .ok (.if_icmp .ne 7, 3) := dk_160 0 7 (dk_at dksX0_fill_7 18 rfl rfl)
theorem dX0_fill_184 : decode cX0_fill 184 = .ok (.iconst 1, 1) := dk_4 (dk_at dksX0_fill_7 21 rfl rfl)
theorem dX0_fill_185 : decode cX0_fill 185 = .ok (.goto 4, 3) := dk_167 0 4 (dk_at dksX0_fill_8 0 rfl rfl)
theorem dX0_fill_188 : decode cX0_fill 188 = .ok (.iconst 0, 1) := dk_3 (dk_at dksX0_fill_8 3 rfl rfl)
theorem dX0_fill_189 : decode cX0_fill 189 = .ok (.istore 9, 2) := dk_54 9 (dk_at dksX0_fill_8 4 rfl rfl)
theorem dX0_fill_191 : decode cX0_fill 191 = .ok (.iinc 10 1, 3) := dk_132 10 1 (dk_at dksX0_fill_8 6 rfl rfl)
theorem dX0_fill_194 : decode cX0_fill 194 = .ok (.goto (-126), 3) := dk_167 255 130 (dk_at dksX0_fill_8 9 rfl rfl)
theorem dX0_fill_197 : decode cX0_fill 197 = .ok (.iload 9, 2) := dk_21 9 (dk_at dksX0_fill_8 12 rfl rfl)
theorem dX0_fill_199 : decode cX0_fill 199 = .ok (.ifCond .eq 27, 3) := dk_153 0 27 (dk_at dksX0_fill_8 14 rfl rfl)
theorem dX0_fill_202 : decode cX0_fill 202 = .ok (.iload 7, 2) := dk_21 7 (dk_at dksX0_fill_8 17 rfl rfl)
theorem dX0_fill_204 : decode cX0_fill 204 = .ok (.iload_n 2, 1) := dk_28 (dk_at dksX0_fill_8 19 rfl rfl)
theorem dX0_fill_205 : decode cX0_fill 205 = .ok (.if_icmp .gt 21, 3) := dk_163 0 21 (dk_at dksX0_fill_8 20 rfl rfl)
theorem dX0_fill_208 : decode cX0_fill 208 = .ok (.iload 8, 2) := dk_21 8 (dk_at dksX0_fill_9 0 rfl rfl)
theorem dX0_fill_210 : decode cX0_fill 210 = .ok (.iload 5, 2) := dk_21 5 (dk_at dksX0_fill_9 2 rfl rfl)
theorem dX0_fill_212 : decode cX0_fill 212 = .ok (.if_icmp .gt 6, 3) := dk_163 0 6 (dk_at dksX0_fill_9 4 rfl rfl)
theorem dX0_fill_215 : decode cX0_fill 215 = .ok (.goto 11, 3) := dk_167 0 11 (dk_at dksX0_fill_9 7 rfl rfl)
theorem dX0_fill_218 : decode cX0_fill 218 = .ok (.iload 6, 2) := dk_21 6 (dk_at dksX0_fill_9 10 rfl rfl)
theorem dX0_fill_220 : decode cX0_fill 220 = .ok (.istore 4, 2) := dk_54 4 (dk_at dksX0_fill_9 12 rfl rfl)
theorem dX0_fill_222 : decode cX0_fill 222 = .ok (.iload 8, 2) := dk_21 8 (dk_at dksX0_fill_9 14 rfl rfl)
theorem dX0_fill_224 : decode cX0_fill 224 = .ok (.istore 5, 2) := dk_54 5 (dk_at dksX0_fill_9 16 rfl rfl)
theorem dX0_fill_226 : decode cX0_fill 226 = .ok (.iinc 6 1, 3) := dk_132 6 1 (dk_at dksX0_fill_9 18 rfl rfl)
theorem dX0_fill_229 : decode cX0_fill 229 = .ok (.goto (-190), 3) := dk_167 255 66 (dk_at dksX0_fill_9 21 rfl rfl)
theorem dX0_fill_232 : decode cX0_fill 232 = .ok (.iload_n 3, 1) := dk_29 (dk_at dksX0_fill_10 0 rfl rfl)
theorem dX0_fill_233 : decode cX0_fill 233 = .ok (.ifCond .ne 8, 3) := dk_154 0 8 (dk_at dksX0_fill_10 1 rfl rfl)
theorem dX0_fill_236 : decode cX0_fill 236 = .ok (.iload 4, 2) := dk_21 4 (dk_at dksX0_fill_10 4 rfl rfl)
theorem dX0_fill_238 : decode cX0_fill 238 = .ok (.goto 5, 3) := dk_167 0 5 (dk_at dksX0_fill_10 6 rfl rfl)
theorem dX0_fill_241 : decode cX0_fill 241 = .ok (.iload 5, 2) := dk_21 5 (dk_at dksX0_fill_10 9 rfl rfl)
theorem dX0_fill_243 : decode cX0_fill 243 = .ok (.ireturn, 1) := dk_172 (dk_at dksX0_fill_10 11 rfl rfl)
abbrev cX0_lasts : ByteArray := prog_1_method_47_code
def yX0_lasts : MethodName := ⟨RX0, "lasts", "(LTubBites$Bobber;LTubBites$Apple;)I"⟩
def dkwX0_lasts_1 : List UInt8 := [29, 108, 172]
abbrev dktX0_lasts_1 : List UInt8 := dkwX0_lasts_1 ++ []
def dkwX0_lasts_0 : List UInt8 := [42, 180, 0, 12, 43, 44, 3, 182, 0, 180, 62, 29, 154, 0, 9, 17, 39, 15, 167, 0, 8, 17, 3, 232]
abbrev dktX0_lasts_0 : List UInt8 := dkwX0_lasts_0 ++ dktX0_lasts_1
theorem dksX0_lasts_0 : cX0_lasts.data.toList.drop 0 = dktX0_lasts_0 := by decide +kernel
theorem dksX0_lasts_1 : cX0_lasts.data.toList.drop 24 = dktX0_lasts_1 := dk_seg dksX0_lasts_0 24 rfl rfl
theorem dX0_lasts_0 : decode cX0_lasts 0 = .ok (.aload_n 0, 1) := dk_42 (dk_at dksX0_lasts_0 0 rfl rfl)
theorem dX0_lasts_1 : decode cX0_lasts 1 = .ok (.getfield 12, 3) := dk_180 0 12 (dk_at dksX0_lasts_0 1 rfl rfl)
theorem dX0_lasts_4 : decode cX0_lasts 4 = .ok (.aload_n 1, 1) := dk_43 (dk_at dksX0_lasts_0 4 rfl rfl)
theorem dX0_lasts_5 : decode cX0_lasts 5 = .ok (.aload_n 2, 1) := dk_44 (dk_at dksX0_lasts_0 5 rfl rfl)
theorem dX0_lasts_6 : decode cX0_lasts 6 = .ok (.iconst 0, 1) := dk_3 (dk_at dksX0_lasts_0 6 rfl rfl)
theorem dX0_lasts_7 : decode cX0_lasts 7 = .ok (.invokevirtual 180, 3) := dk_182 0 180 (dk_at dksX0_lasts_0 7 rfl rfl)
theorem dX0_lasts_10 : decode cX0_lasts 10 = .ok (.istore_n 3, 1) := dk_62 (dk_at dksX0_lasts_0 10 rfl rfl)
theorem dX0_lasts_11 : decode cX0_lasts 11 = .ok (.iload_n 3, 1) := dk_29 (dk_at dksX0_lasts_0 11 rfl rfl)
theorem dX0_lasts_12 : decode cX0_lasts 12 = .ok (.ifCond .ne 9, 3) := dk_154 0 9 (dk_at dksX0_lasts_0 12 rfl rfl)
theorem dX0_lasts_15 : decode cX0_lasts 15 = .ok (.sipush 9999, 3) := dk_17 39 15 (dk_at dksX0_lasts_0 15 rfl rfl)
theorem dX0_lasts_18 : decode cX0_lasts 18 = .ok (.goto 8, 3) := dk_167 0 8 (dk_at dksX0_lasts_0 18 rfl rfl)
theorem dX0_lasts_21 : decode cX0_lasts 21 = .ok (.sipush 1000, 3) := dk_17 3 232 (dk_at dksX0_lasts_0 21 rfl rfl)
theorem dX0_lasts_24 : decode cX0_lasts 24 = .ok (.iload_n 3, 1) := dk_29 (dk_at dksX0_lasts_1 0 rfl rfl)
theorem dX0_lasts_25 : decode cX0_lasts 25 = .ok (.idiv, 1) := dk_108 (dk_at dksX0_lasts_1 1 rfl rfl)
theorem dX0_lasts_26 : decode cX0_lasts 26 = .ok (.ireturn, 1) := dk_172 (dk_at dksX0_lasts_1 2 rfl rfl)
abbrev cX0_coin : ByteArray := prog_1_method_50_code
def yX0_coin : MethodName := ⟨RX0, "coin", "(II)I"⟩
def dkwX0_coin_6 : List UInt8 := [28, 172, 28, 154, 0, 8, 21, 4, 167, 0, 4, 29, 29, 21, 4, 184, 1, 68, 108, 172]
abbrev dktX0_coin_6 : List UInt8 := dkwX0_coin_6 ++ []
def dkwX0_coin_5 : List UInt8 := [180, 0, 87, 27, 182, 0, 104, 192, 0, 145, 180, 1, 71, 167, 0, 4, 3, 54, 4, 21, 4, 154, 0, 5]
abbrev dktX0_coin_5 : List UInt8 := dkwX0_coin_5 ++ dktX0_coin_6
def dkwX0_coin_4 : List UInt8 := [180, 0, 12, 180, 0, 87, 27, 182, 0, 104, 192, 0, 145, 180, 0, 153, 2, 160, 0, 23, 42, 180, 0, 12]
abbrev dktX0_coin_4 : List UInt8 := dkwX0_coin_4 ++ dktX0_coin_5
def dkwX0_coin_3 : List UInt8 := [182, 0, 104, 192, 0, 145, 180, 1, 71, 167, 0, 4, 3, 96, 62, 132, 4, 1, 167, 255, 191, 42]
abbrev dktX0_coin_3 : List UInt8 := dkwX0_coin_3 ++ dktX0_coin_4
def dkwX0_coin_2 : List UInt8 := [21, 4, 182, 0, 104, 192, 0, 145, 180, 0, 153, 2, 160, 0, 24, 42, 180, 0, 12, 180, 0, 87, 21, 4]
abbrev dktX0_coin_2 : List UInt8 := dkwX0_coin_2 ++ dktX0_coin_3
def dkwX0_coin_1 : List UInt8 := [21, 4, 42, 180, 0, 12, 180, 0, 87, 182, 0, 68, 162, 0, 56, 29, 42, 180, 0, 12, 180, 0, 87]
abbrev dktX0_coin_1 : List UInt8 := dkwX0_coin_1 ++ dktX0_coin_2
def dkwX0_coin_0 : List UInt8 := [42, 27, 182, 0, 141, 153, 0, 12, 28, 3, 4, 184, 0, 90, 154, 0, 5, 2, 172, 3, 62, 3, 54, 4]
abbrev dktX0_coin_0 : List UInt8 := dkwX0_coin_0 ++ dktX0_coin_1
theorem dksX0_coin_0 : cX0_coin.data.toList.drop 0 = dktX0_coin_0 := by decide +kernel
theorem dksX0_coin_1 : cX0_coin.data.toList.drop 24 = dktX0_coin_1 := dk_seg dksX0_coin_0 24 rfl rfl
theorem dksX0_coin_2 : cX0_coin.data.toList.drop 47 = dktX0_coin_2 := dk_seg dksX0_coin_1 23 rfl rfl
theorem dksX0_coin_3 : cX0_coin.data.toList.drop 71 = dktX0_coin_3 := dk_seg dksX0_coin_2 24 rfl rfl
theorem dksX0_coin_4 : cX0_coin.data.toList.drop 93 = dktX0_coin_4 := dk_seg dksX0_coin_3 22 rfl rfl
theorem dksX0_coin_5 : cX0_coin.data.toList.drop 117 = dktX0_coin_5 := dk_seg dksX0_coin_4 24 rfl rfl
theorem dksX0_coin_6 : cX0_coin.data.toList.drop 141 = dktX0_coin_6 := dk_seg dksX0_coin_5 24 rfl rfl
theorem dX0_coin_0 : decode cX0_coin 0 = .ok (.aload_n 0, 1) := dk_42 (dk_at dksX0_coin_0 0 rfl rfl)
theorem dX0_coin_1 : decode cX0_coin 1 = .ok (.iload_n 1, 1) := dk_27 (dk_at dksX0_coin_0 1 rfl rfl)
theorem dX0_coin_2 : decode cX0_coin 2 = .ok (.invokevirtual 141, 3) := dk_182 0 141 (dk_at dksX0_coin_0 2 rfl rfl)
theorem dX0_coin_5 : decode cX0_coin 5 = .ok (.ifCond .eq 12, 3) := dk_153 0 12 (dk_at dksX0_coin_0 5 rfl rfl)
theorem dX0_coin_8 : decode cX0_coin 8 = .ok (.iload_n 2, 1) := dk_28 (dk_at dksX0_coin_0 8 rfl rfl)
theorem dX0_coin_9 : decode cX0_coin 9 = .ok (.iconst 0, 1) := dk_3 (dk_at dksX0_coin_0 9 rfl rfl)
theorem dX0_coin_10 : decode cX0_coin 10 = .ok (.iconst 1, 1) := dk_4 (dk_at dksX0_coin_0 10 rfl rfl)
theorem dX0_coin_11 : decode cX0_coin 11 = .ok (.invokestatic 90, 3) := dk_184 0 90 (dk_at dksX0_coin_0 11 rfl rfl)
theorem dX0_coin_14 : decode cX0_coin 14 = .ok (.ifCond .ne 5, 3) := dk_154 0 5 (dk_at dksX0_coin_0 14 rfl rfl)
theorem dX0_coin_17 : decode cX0_coin 17 = .ok (.iconst (-1), 1) := dk_2 (dk_at dksX0_coin_0 17 rfl rfl)
theorem dX0_coin_18 : decode cX0_coin 18 = .ok (.ireturn, 1) := dk_172 (dk_at dksX0_coin_0 18 rfl rfl)
theorem dX0_coin_19 : decode cX0_coin 19 = .ok (.iconst 0, 1) := dk_3 (dk_at dksX0_coin_0 19 rfl rfl)
theorem dX0_coin_20 : decode cX0_coin 20 = .ok (.istore_n 3, 1) := dk_62 (dk_at dksX0_coin_0 20 rfl rfl)
theorem dX0_coin_21 : decode cX0_coin 21 = .ok (.iconst 0, 1) := dk_3 (dk_at dksX0_coin_0 21 rfl rfl)
theorem dX0_coin_22 : decode cX0_coin 22 = .ok (.istore 4, 2) := dk_54 4 (dk_at dksX0_coin_0 22 rfl rfl)
theorem dX0_coin_24 : decode cX0_coin 24 = .ok (.iload 4, 2) := dk_21 4 (dk_at dksX0_coin_1 0 rfl rfl)
theorem dX0_coin_26 : decode cX0_coin 26 = .ok (.aload_n 0, 1) := dk_42 (dk_at dksX0_coin_1 2 rfl rfl)
theorem dX0_coin_27 : decode cX0_coin 27 = .ok (.getfield 12, 3) := dk_180 0 12 (dk_at dksX0_coin_1 3 rfl rfl)
theorem dX0_coin_30 : decode cX0_coin 30 = .ok (.getfield 87, 3) := dk_180 0 87 (dk_at dksX0_coin_1 6 rfl rfl)
theorem dX0_coin_33 : decode cX0_coin 33 = .ok (.invokevirtual 68, 3) := dk_182 0 68 (dk_at dksX0_coin_1 9 rfl rfl)
theorem dX0_coin_36 : decode cX0_coin 36 = .ok (.if_icmp .ge 56, 3) := dk_162 0 56 (dk_at dksX0_coin_1 12 rfl rfl)
theorem dX0_coin_39 : decode cX0_coin 39 = .ok (.iload_n 3, 1) := dk_29 (dk_at dksX0_coin_1 15 rfl rfl)
theorem dX0_coin_40 : decode cX0_coin 40 = .ok (.aload_n 0, 1) := dk_42 (dk_at dksX0_coin_1 16 rfl rfl)
theorem dX0_coin_41 : decode cX0_coin 41 = .ok (.getfield 12, 3) := dk_180 0 12 (dk_at dksX0_coin_1 17 rfl rfl)
theorem dX0_coin_44 : decode cX0_coin 44 = .ok (.getfield 87, 3) := dk_180 0 87 (dk_at dksX0_coin_1 20 rfl rfl)
theorem dX0_coin_47 : decode cX0_coin 47 = .ok (.iload 4, 2) := dk_21 4 (dk_at dksX0_coin_2 0 rfl rfl)
theorem dX0_coin_49 : decode cX0_coin 49 = .ok (.invokevirtual 104, 3) := dk_182 0 104 (dk_at dksX0_coin_2 2 rfl rfl)
theorem dX0_coin_52 : decode cX0_coin 52 = .ok (.checkcast 145, 3) := dk_192 0 145 (dk_at dksX0_coin_2 5 rfl rfl)
theorem dX0_coin_55 : decode cX0_coin 55 = .ok (.getfield 153, 3) := dk_180 0 153 (dk_at dksX0_coin_2 8 rfl rfl)
theorem dX0_coin_58 : decode cX0_coin 58 = .ok (.iconst (-1), 1) := dk_2 (dk_at dksX0_coin_2 11 rfl rfl)
theorem dX0_coin_59 : decode cX0_coin 59 = .ok (.if_icmp .ne 24, 3) := dk_160 0 24 (dk_at dksX0_coin_2 12 rfl rfl)
theorem dX0_coin_62 : decode cX0_coin 62 = .ok (.aload_n 0, 1) := dk_42 (dk_at dksX0_coin_2 15 rfl rfl)
theorem dX0_coin_63 : decode cX0_coin 63 = .ok (.getfield 12, 3) := dk_180 0 12 (dk_at dksX0_coin_2 16 rfl rfl)
theorem dX0_coin_66 : decode cX0_coin 66 = .ok (.getfield 87, 3) := dk_180 0 87 (dk_at dksX0_coin_2 19 rfl rfl)
theorem dX0_coin_69 : decode cX0_coin 69 = .ok (.iload 4, 2) := dk_21 4 (dk_at dksX0_coin_2 22 rfl rfl)
theorem dX0_coin_71 : decode cX0_coin 71 = .ok (.invokevirtual 104, 3) := dk_182 0 104 (dk_at dksX0_coin_3 0 rfl rfl)
theorem dX0_coin_74 : decode cX0_coin 74 = .ok (.checkcast 145, 3) := dk_192 0 145 (dk_at dksX0_coin_3 3 rfl rfl)
theorem dX0_coin_77 : decode cX0_coin 77 = .ok (.getfield 327, 3) := dk_180 1 71 (dk_at dksX0_coin_3 6 rfl rfl)
theorem dX0_coin_80 : decode cX0_coin 80 = .ok (.goto 4, 3) := dk_167 0 4 (dk_at dksX0_coin_3 9 rfl rfl)
theorem dX0_coin_83 : decode cX0_coin 83 = .ok (.iconst 0, 1) := dk_3 (dk_at dksX0_coin_3 12 rfl rfl)
theorem dX0_coin_84 : decode cX0_coin 84 = .ok (.iadd, 1) := dk_96 (dk_at dksX0_coin_3 13 rfl rfl)
theorem dX0_coin_85 : decode cX0_coin 85 = .ok (.istore_n 3, 1) := dk_62 (dk_at dksX0_coin_3 14 rfl rfl)
theorem dX0_coin_86 : decode cX0_coin 86 = .ok (.iinc 4 1, 3) := dk_132 4 1 (dk_at dksX0_coin_3 15 rfl rfl)
theorem dX0_coin_89 : decode cX0_coin 89 = .ok (.goto (-65), 3) := dk_167 255 191 (dk_at dksX0_coin_3 18 rfl rfl)
theorem dX0_coin_92 : decode cX0_coin 92 = .ok (.aload_n 0, 1) := dk_42 (dk_at dksX0_coin_3 21 rfl rfl)
theorem dX0_coin_93 : decode cX0_coin 93 = .ok (.getfield 12, 3) := dk_180 0 12 (dk_at dksX0_coin_4 0 rfl rfl)
theorem dX0_coin_96 : decode cX0_coin 96 = .ok (.getfield 87, 3) := dk_180 0 87 (dk_at dksX0_coin_4 3 rfl rfl)
theorem dX0_coin_99 : decode cX0_coin 99 = .ok (.iload_n 1, 1) := dk_27 (dk_at dksX0_coin_4 6 rfl rfl)
theorem dX0_coin_100 : decode cX0_coin 100 = .ok (.invokevirtual 104, 3) := dk_182 0 104 (dk_at dksX0_coin_4 7 rfl rfl)
theorem dX0_coin_103 : decode cX0_coin 103 = .ok (.checkcast 145, 3) := dk_192 0 145 (dk_at dksX0_coin_4 10 rfl rfl)
theorem dX0_coin_106 : decode cX0_coin 106 = .ok (.getfield 153, 3) := dk_180 0 153 (dk_at dksX0_coin_4 13 rfl rfl)
theorem dX0_coin_109 : decode cX0_coin 109 = .ok (.iconst (-1), 1) := dk_2 (dk_at dksX0_coin_4 16 rfl rfl)
theorem dX0_coin_110 : decode cX0_coin 110 = .ok (.if_icmp .ne 23, 3) := dk_160 0 23 (dk_at dksX0_coin_4 17 rfl rfl)
theorem dX0_coin_113 : decode cX0_coin 113 = .ok (.aload_n 0, 1) := dk_42 (dk_at dksX0_coin_4 20 rfl rfl)
theorem dX0_coin_114 : decode cX0_coin 114 = .ok (.getfield 12, 3) := dk_180 0 12 (dk_at dksX0_coin_4 21 rfl rfl)
theorem dX0_coin_117 : decode cX0_coin 117 = .ok (.getfield 87, 3) := dk_180 0 87 (dk_at dksX0_coin_5 0 rfl rfl)
theorem dX0_coin_120 : decode cX0_coin 120 = .ok (.iload_n 1, 1) := dk_27 (dk_at dksX0_coin_5 3 rfl rfl)
theorem dX0_coin_121 : decode cX0_coin 121 = .ok (.invokevirtual 104, 3) := dk_182 0 104 (dk_at dksX0_coin_5 4 rfl rfl)
theorem dX0_coin_124 : decode cX0_coin 124 = .ok (.checkcast 145, 3) := dk_192 0 145 (dk_at dksX0_coin_5 7 rfl rfl)
theorem dX0_coin_127 : decode cX0_coin 127 = .ok (.getfield 327, 3) := dk_180 1 71 (dk_at dksX0_coin_5 10 rfl rfl)
theorem dX0_coin_130 : decode cX0_coin 130 = .ok (.goto 4, 3) := dk_167 0 4 (dk_at dksX0_coin_5 13 rfl rfl)
theorem dX0_coin_133 : decode cX0_coin 133 = .ok (.iconst 0, 1) := dk_3 (dk_at dksX0_coin_5 16 rfl rfl)
theorem dX0_coin_134 : decode cX0_coin 134 = .ok (.istore 4, 2) := dk_54 4 (dk_at dksX0_coin_5 17 rfl rfl)
theorem dX0_coin_136 : decode cX0_coin 136 = .ok (.iload 4, 2) := dk_21 4 (dk_at dksX0_coin_5 19 rfl rfl)
theorem dX0_coin_138 : decode cX0_coin 138 = .ok (.ifCond .ne 5, 3) := dk_154 0 5 (dk_at dksX0_coin_5 21 rfl rfl)
theorem dX0_coin_141 : decode cX0_coin 141 = .ok (.iload_n 2, 1) := dk_28 (dk_at dksX0_coin_6 0 rfl rfl)
theorem dX0_coin_142 : decode cX0_coin 142 = .ok (.ireturn, 1) := dk_172 (dk_at dksX0_coin_6 1 rfl rfl)
theorem dX0_coin_143 : decode cX0_coin 143 = .ok (.iload_n 2, 1) := dk_28 (dk_at dksX0_coin_6 2 rfl rfl)
theorem dX0_coin_144 : decode cX0_coin 144 = .ok (.ifCond .ne 8, 3) := dk_154 0 8 (dk_at dksX0_coin_6 3 rfl rfl)
theorem dX0_coin_147 : decode cX0_coin 147 = .ok (.iload 4, 2) := dk_21 4 (dk_at dksX0_coin_6 6 rfl rfl)
theorem dX0_coin_149 : decode cX0_coin 149 = .ok (.goto 4, 3) := dk_167 0 4 (dk_at dksX0_coin_6 8 rfl rfl)
theorem dX0_coin_152 : decode cX0_coin 152 = .ok (.iload_n 3, 1) := dk_29 (dk_at dksX0_coin_6 11 rfl rfl)
theorem dX0_coin_153 : decode cX0_coin 153 = .ok (.iload_n 3, 1) := dk_29 (dk_at dksX0_coin_6 12 rfl rfl)
theorem dX0_coin_154 : decode cX0_coin 154 = .ok (.iload 4, 2) := dk_21 4 (dk_at dksX0_coin_6 13 rfl rfl)
theorem dX0_coin_156 : decode cX0_coin 156 = .ok (.invokestatic 324, 3) := dk_184 1 68 (dk_at dksX0_coin_6 15 rfl rfl)
theorem dX0_coin_159 : decode cX0_coin 159 = .ok (.idiv, 1) := dk_108 (dk_at dksX0_coin_6 18 rfl rfl)
theorem dX0_coin_160 : decode cX0_coin 160 = .ok (.ireturn, 1) := dk_172 (dk_at dksX0_coin_6 19 rfl rfl)
abbrev cX0_common : ByteArray := prog_1_method_49_code
def yX0_common : MethodName := ⟨RX0, "common", "(II)I"⟩
def dkwX0_common_0 : List UInt8 := [27, 154, 0, 7, 26, 167, 0, 10, 27, 26, 27, 112, 184, 1, 68, 172]
abbrev dktX0_common_0 : List UInt8 := dkwX0_common_0 ++ []
theorem dksX0_common_0 : cX0_common.data.toList.drop 0 = dktX0_common_0 := by decide +kernel
theorem dX0_common_0 : decode cX0_common 0 = .ok (.iload_n 1, 1) := dk_27 (dk_at dksX0_common_0 0 rfl rfl)
theorem dX0_common_1 : decode cX0_common 1 = .ok (.ifCond .ne 7, 3) := dk_154 0 7 (dk_at dksX0_common_0 1 rfl rfl)
theorem dX0_common_4 : decode cX0_common 4 = .ok (.iload_n 0, 1) := dk_26 (dk_at dksX0_common_0 4 rfl rfl)
theorem dX0_common_5 : decode cX0_common 5 = .ok (.goto 10, 3) := dk_167 0 10 (dk_at dksX0_common_0 5 rfl rfl)
theorem dX0_common_8 : decode cX0_common 8 = .ok (.iload_n 1, 1) := dk_27 (dk_at dksX0_common_0 8 rfl rfl)
theorem dX0_common_9 : decode cX0_common 9 = .ok (.iload_n 0, 1) := dk_26 (dk_at dksX0_common_0 9 rfl rfl)
theorem dX0_common_10 : decode cX0_common 10 = .ok (.iload_n 1, 1) := dk_27 (dk_at dksX0_common_0 10 rfl rfl)
theorem dX0_common_11 : decode cX0_common 11 = .ok (.irem, 1) := dk_112 (dk_at dksX0_common_0 11 rfl rfl)
theorem dX0_common_12 : decode cX0_common 12 = .ok (.invokestatic 324, 3) := dk_184 1 68 (dk_at dksX0_common_0 12 rfl rfl)
theorem dX0_common_15 : decode cX0_common 15 = .ok (.ireturn, 1) := dk_172 (dk_at dksX0_common_0 15 rfl rfl)
abbrev cX0_pick : ByteArray := prog_1_method_51_code
def yX0_pick : MethodName := ⟨RX0, "pick", "(III)I"⟩
def dkwX0_pick_3 : List UInt8 := [42, 180, 1, 76, 183, 1, 79, 182, 0, 80, 87, 42, 180, 0, 44, 182, 0, 68, 4, 100, 172]
abbrev dktX0_pick_3 : List UInt8 := dkwX0_pick_3 ++ []
def dkwX0_pick_2 : List UInt8 := [180, 0, 44, 182, 0, 68, 16, 30, 160, 0, 5, 2, 172, 42, 180, 0, 44, 187, 1, 74, 89, 27, 28, 29]
abbrev dktX0_pick_2 : List UInt8 := dkwX0_pick_2 ++ dktX0_pick_3
def dkwX0_pick_1 : List UInt8 := [180, 0, 12, 180, 0, 87, 182, 0, 68, 120, 162, 0, 23, 28, 29, 122, 4, 126, 153, 0, 15, 42]
abbrev dktX0_pick_1 : List UInt8 := dkwX0_pick_1 ++ dktX0_pick_2
def dkwX0_pick_0 : List UInt8 := [42, 27, 182, 0, 161, 153, 0, 51, 42, 29, 182, 0, 141, 153, 0, 43, 28, 155, 0, 39, 28, 4, 42]
abbrev dktX0_pick_0 : List UInt8 := dkwX0_pick_0 ++ dktX0_pick_1
theorem dksX0_pick_0 : cX0_pick.data.toList.drop 0 = dktX0_pick_0 := by decide +kernel
theorem dksX0_pick_1 : cX0_pick.data.toList.drop 23 = dktX0_pick_1 := dk_seg dksX0_pick_0 23 rfl rfl
theorem dksX0_pick_2 : cX0_pick.data.toList.drop 45 = dktX0_pick_2 := dk_seg dksX0_pick_1 22 rfl rfl
theorem dksX0_pick_3 : cX0_pick.data.toList.drop 69 = dktX0_pick_3 := dk_seg dksX0_pick_2 24 rfl rfl
theorem dX0_pick_0 : decode cX0_pick 0 = .ok (.aload_n 0, 1) := dk_42 (dk_at dksX0_pick_0 0 rfl rfl)
theorem dX0_pick_1 : decode cX0_pick 1 = .ok (.iload_n 1, 1) := dk_27 (dk_at dksX0_pick_0 1 rfl rfl)
theorem dX0_pick_2 : decode cX0_pick 2 = .ok (.invokevirtual 161, 3) := dk_182 0 161 (dk_at dksX0_pick_0 2 rfl rfl)
theorem dX0_pick_5 : decode cX0_pick 5 = .ok (.ifCond .eq 51, 3) := dk_153 0 51 (dk_at dksX0_pick_0 5 rfl rfl)
theorem dX0_pick_8 : decode cX0_pick 8 = .ok (.aload_n 0, 1) := dk_42 (dk_at dksX0_pick_0 8 rfl rfl)
theorem dX0_pick_9 : decode cX0_pick 9 = .ok (.iload_n 3, 1) := dk_29 (dk_at dksX0_pick_0 9 rfl rfl)
theorem dX0_pick_10 : decode cX0_pick 10 = .ok (.invokevirtual 141, 3) := dk_182 0 141 (dk_at dksX0_pick_0 10 rfl rfl)
theorem dX0_pick_13 : decode cX0_pick 13 = .ok (.ifCond .eq 43, 3) := dk_153 0 43 (dk_at dksX0_pick_0 13 rfl rfl)
theorem dX0_pick_16 : decode cX0_pick 16 = .ok (.iload_n 2, 1) := dk_28 (dk_at dksX0_pick_0 16 rfl rfl)
theorem dX0_pick_17 : decode cX0_pick 17 = .ok (.ifCond .lt 39, 3) := dk_155 0 39 (dk_at dksX0_pick_0 17 rfl rfl)
theorem dX0_pick_20 : decode cX0_pick 20 = .ok (.iload_n 2, 1) := dk_28 (dk_at dksX0_pick_0 20 rfl rfl)
theorem dX0_pick_21 : decode cX0_pick 21 = .ok (.iconst 1, 1) := dk_4 (dk_at dksX0_pick_0 21 rfl rfl)
theorem dX0_pick_22 : decode cX0_pick 22 = .ok (.aload_n 0, 1) := dk_42 (dk_at dksX0_pick_0 22 rfl rfl)
theorem dX0_pick_23 : decode cX0_pick 23 = .ok (.getfield 12, 3) := dk_180 0 12 (dk_at dksX0_pick_1 0 rfl rfl)
theorem dX0_pick_26 : decode cX0_pick 26 = .ok (.getfield 87, 3) := dk_180 0 87 (dk_at dksX0_pick_1 3 rfl rfl)
theorem dX0_pick_29 : decode cX0_pick 29 = .ok (.invokevirtual 68, 3) := dk_182 0 68 (dk_at dksX0_pick_1 6 rfl rfl)
theorem dX0_pick_32 : decode cX0_pick 32 = .ok (.ishl, 1) := dk_120 (dk_at dksX0_pick_1 9 rfl rfl)
theorem dX0_pick_33 : decode cX0_pick 33 = .ok (.if_icmp .ge 23, 3) := dk_162 0 23 (dk_at dksX0_pick_1 10 rfl rfl)
theorem dX0_pick_36 : decode cX0_pick 36 = .ok (.iload_n 2, 1) := dk_28 (dk_at dksX0_pick_1 13 rfl rfl)
theorem dX0_pick_37 : decode cX0_pick 37 = .ok (.iload_n 3, 1) := dk_29 (dk_at dksX0_pick_1 14 rfl rfl)
theorem dX0_pick_38 : decode cX0_pick 38 = .ok (.ishr, 1) := dk_122 (dk_at dksX0_pick_1 15 rfl rfl)
theorem dX0_pick_39 : decode cX0_pick 39 = .ok (.iconst 1, 1) := dk_4 (dk_at dksX0_pick_1 16 rfl rfl)
theorem dX0_pick_40 : decode cX0_pick 40 = .ok (.iand, 1) := dk_126 (dk_at dksX0_pick_1 17 rfl rfl)
theorem dX0_pick_41 : decode cX0_pick 41 = .ok (.ifCond .eq 15, 3) := dk_153 0 15 (dk_at dksX0_pick_1 18 rfl rfl)
theorem dX0_pick_44 : decode cX0_pick 44 = .ok (.aload_n 0, 1) := dk_42 (dk_at dksX0_pick_1 21 rfl rfl)
theorem dX0_pick_45 : decode cX0_pick 45 = .ok (.getfield 44, 3) := dk_180 0 44 (dk_at dksX0_pick_2 0 rfl rfl)
theorem dX0_pick_48 : decode cX0_pick 48 = .ok (.invokevirtual 68, 3) := dk_182 0 68 (dk_at dksX0_pick_2 3 rfl rfl)
theorem dX0_pick_51 : decode cX0_pick 51 = .ok (.bipush 30, 2) := dk_16 30 (dk_at dksX0_pick_2 6 rfl rfl)
theorem dX0_pick_53 : decode cX0_pick 53 = .ok (.if_icmp .ne 5, 3) := dk_160 0 5 (dk_at dksX0_pick_2 8 rfl rfl)
theorem dX0_pick_56 : decode cX0_pick 56 = .ok (.iconst (-1), 1) := dk_2 (dk_at dksX0_pick_2 11 rfl rfl)
theorem dX0_pick_57 : decode cX0_pick 57 = .ok (.ireturn, 1) := dk_172 (dk_at dksX0_pick_2 12 rfl rfl)
theorem dX0_pick_58 : decode cX0_pick 58 = .ok (.aload_n 0, 1) := dk_42 (dk_at dksX0_pick_2 13 rfl rfl)
theorem dX0_pick_59 : decode cX0_pick 59 = .ok (.getfield 44, 3) := dk_180 0 44 (dk_at dksX0_pick_2 14 rfl rfl)
theorem dX0_pick_62 : decode cX0_pick 62 = .ok (.new 330, 3) := dk_187 1 74 (dk_at dksX0_pick_2 17 rfl rfl)
theorem dX0_pick_65 : decode cX0_pick 65 = .ok (.dup, 1) := dk_89 (dk_at dksX0_pick_2 20 rfl rfl)
theorem dX0_pick_66 : decode cX0_pick 66 = .ok (.iload_n 1, 1) := dk_27 (dk_at dksX0_pick_2 21 rfl rfl)
theorem dX0_pick_67 : decode cX0_pick 67 = .ok (.iload_n 2, 1) := dk_28 (dk_at dksX0_pick_2 22 rfl rfl)
theorem dX0_pick_68 : decode cX0_pick 68 = .ok (.iload_n 3, 1) := dk_29 (dk_at dksX0_pick_2 23 rfl rfl)
theorem dX0_pick_69 : decode cX0_pick 69 = .ok (.aload_n 0, 1) := dk_42 (dk_at dksX0_pick_3 0 rfl rfl)
theorem dX0_pick_70 : decode cX0_pick 70 = .ok (.getfield 332, 3) := dk_180 1 76 (dk_at dksX0_pick_3 1 rfl rfl)
theorem dX0_pick_73 : decode cX0_pick 73 = .ok (.invokespecial 335, 3) := dk_183 1 79 (dk_at dksX0_pick_3 4 rfl rfl)
theorem dX0_pick_76 : decode cX0_pick 76 = .ok (.invokevirtual 80, 3) := dk_182 0 80 (dk_at dksX0_pick_3 7 rfl rfl)
theorem dX0_pick_79 : decode cX0_pick 79 = .ok (.pop, 1) := dk_87 (dk_at dksX0_pick_3 10 rfl rfl)
theorem dX0_pick_80 : decode cX0_pick 80 = .ok (.aload_n 0, 1) := dk_42 (dk_at dksX0_pick_3 11 rfl rfl)
theorem dX0_pick_81 : decode cX0_pick 81 = .ok (.getfield 44, 3) := dk_180 0 44 (dk_at dksX0_pick_3 12 rfl rfl)
theorem dX0_pick_84 : decode cX0_pick 84 = .ok (.invokevirtual 68, 3) := dk_182 0 68 (dk_at dksX0_pick_3 15 rfl rfl)
theorem dX0_pick_87 : decode cX0_pick 87 = .ok (.iconst 1, 1) := dk_4 (dk_at dksX0_pick_3 18 rfl rfl)
theorem dX0_pick_88 : decode cX0_pick 88 = .ok (.isub, 1) := dk_100 (dk_at dksX0_pick_3 19 rfl rfl)
theorem dX0_pick_89 : decode cX0_pick 89 = .ok (.ireturn, 1) := dk_172 (dk_at dksX0_pick_3 20 rfl rfl)
abbrev cX0_untell : ByteArray := prog_1_method_52_code
def yX0_untell : MethodName := ⟨RX0, "untell", "(I)Z"⟩
def dkwX0_untell_2 : List UInt8 := [192, 1, 74, 42, 180, 1, 76, 181, 1, 82, 4, 172]
abbrev dktX0_untell_2 : List UInt8 := dkwX0_untell_2 ++ []
def dkwX0_untell_1 : List UInt8 := [182, 0, 104, 192, 1, 74, 180, 1, 82, 155, 0, 5, 3, 172, 42, 180, 0, 44, 27, 182, 0, 104]
abbrev dktX0_untell_1 : List UInt8 := dkwX0_untell_1 ++ dktX0_untell_2
def dkwX0_untell_0 : List UInt8 := [27, 3, 42, 180, 0, 44, 182, 0, 68, 4, 100, 184, 0, 90, 153, 0, 20, 42, 180, 0, 44, 27]
abbrev dktX0_untell_0 : List UInt8 := dkwX0_untell_0 ++ dktX0_untell_1
theorem dksX0_untell_0 : cX0_untell.data.toList.drop 0 = dktX0_untell_0 := by decide +kernel
theorem dksX0_untell_1 : cX0_untell.data.toList.drop 22 = dktX0_untell_1 := dk_seg dksX0_untell_0 22 rfl rfl
theorem dksX0_untell_2 : cX0_untell.data.toList.drop 44 = dktX0_untell_2 := dk_seg dksX0_untell_1 22 rfl rfl
theorem dX0_untell_0 : decode cX0_untell 0 = .ok (.iload_n 1, 1) := dk_27 (dk_at dksX0_untell_0 0 rfl rfl)
theorem dX0_untell_1 : decode cX0_untell 1 = .ok (.iconst 0, 1) := dk_3 (dk_at dksX0_untell_0 1 rfl rfl)
theorem dX0_untell_2 : decode cX0_untell 2 = .ok (.aload_n 0, 1) := dk_42 (dk_at dksX0_untell_0 2 rfl rfl)
theorem dX0_untell_3 : decode cX0_untell 3 = .ok (.getfield 44, 3) := dk_180 0 44 (dk_at dksX0_untell_0 3 rfl rfl)
theorem dX0_untell_6 : decode cX0_untell 6 = .ok (.invokevirtual 68, 3) := dk_182 0 68 (dk_at dksX0_untell_0 6 rfl rfl)
theorem dX0_untell_9 : decode cX0_untell 9 = .ok (.iconst 1, 1) := dk_4 (dk_at dksX0_untell_0 9 rfl rfl)
theorem dX0_untell_10 : decode cX0_untell 10 = .ok (.isub, 1) := dk_100 (dk_at dksX0_untell_0 10 rfl rfl)
theorem dX0_untell_11 : decode cX0_untell 11 = .ok (.invokestatic 90, 3) := dk_184 0 90 (dk_at dksX0_untell_0 11 rfl rfl)
theorem dX0_untell_14 : decode cX0_untell 14 = .ok (.ifCond .eq 20, 3) := dk_153 0 20 (dk_at dksX0_untell_0 14 rfl rfl)
theorem dX0_untell_17 : decode cX0_untell 17 = .ok (.aload_n 0, 1) := dk_42 (dk_at dksX0_untell_0 17 rfl rfl)
theorem dX0_untell_18 : decode cX0_untell 18 = .ok (.getfield 44, 3) := dk_180 0 44 (dk_at dksX0_untell_0 18 rfl rfl)
theorem dX0_untell_21 : decode cX0_untell 21 = .ok (.iload_n 1, 1) := dk_27 (dk_at dksX0_untell_0 21 rfl rfl)
theorem dX0_untell_22 : decode cX0_untell 22 = .ok (.invokevirtual 104, 3) := dk_182 0 104 (dk_at dksX0_untell_1 0 rfl rfl)
theorem dX0_untell_25 : decode cX0_untell 25 = .ok (.checkcast 330, 3) := dk_192 1 74 (dk_at dksX0_untell_1 3 rfl rfl)
theorem dX0_untell_28 : decode cX0_untell 28 = .ok (.getfield 338, 3) := dk_180 1 82 (dk_at dksX0_untell_1 6 rfl rfl)
theorem dX0_untell_31 : decode cX0_untell 31 = .ok (.ifCond .lt 5, 3) := dk_155 0 5 (dk_at dksX0_untell_1 9 rfl rfl)
theorem dX0_untell_34 : decode cX0_untell 34 = .ok (.iconst 0, 1) := dk_3 (dk_at dksX0_untell_1 12 rfl rfl)
theorem dX0_untell_35 : decode cX0_untell 35 = .ok (.ireturn, 1) := dk_172 (dk_at dksX0_untell_1 13 rfl rfl)
theorem dX0_untell_36 : decode cX0_untell 36 = .ok (.aload_n 0, 1) := dk_42 (dk_at dksX0_untell_1 14 rfl rfl)
theorem dX0_untell_37 : decode cX0_untell 37 = .ok (.getfield 44, 3) := dk_180 0 44 (dk_at dksX0_untell_1 15 rfl rfl)
theorem dX0_untell_40 : decode cX0_untell 40 = .ok (.iload_n 1, 1) := dk_27 (dk_at dksX0_untell_1 18 rfl rfl)
theorem dX0_untell_41 : decode cX0_untell 41 = .ok (.invokevirtual 104, 3) := dk_182 0 104 (dk_at dksX0_untell_1 19 rfl rfl)
theorem dX0_untell_44 : decode cX0_untell 44 = .ok (.checkcast 330, 3) := dk_192 1 74 (dk_at dksX0_untell_2 0 rfl rfl)
theorem dX0_untell_47 : decode cX0_untell 47 = .ok (.aload_n 0, 1) := dk_42 (dk_at dksX0_untell_2 3 rfl rfl)
theorem dX0_untell_48 : decode cX0_untell 48 = .ok (.getfield 332, 3) := dk_180 1 76 (dk_at dksX0_untell_2 4 rfl rfl)
theorem dX0_untell_51 : decode cX0_untell 51 = .ok (.putfield 338, 3) := dk_181 1 82 (dk_at dksX0_untell_2 7 rfl rfl)
theorem dX0_untell_54 : decode cX0_untell 54 = .ok (.iconst 1, 1) := dk_4 (dk_at dksX0_untell_2 10 rfl rfl)
theorem dX0_untell_55 : decode cX0_untell 55 = .ok (.ireturn, 1) := dk_172 (dk_at dksX0_untell_2 11 rfl rfl)
abbrev cX0_later : ByteArray := prog_1_method_53_code
def yX0_later : MethodName := ⟨RX0, "later", "(I)I"⟩
def dkwX0_later_1 : List UInt8 := [172, 42, 89, 180, 1, 76, 27, 96, 181, 1, 76, 42, 180, 1, 76, 172]
abbrev dktX0_later_1 : List UInt8 := dkwX0_later_1 ++ []
def dkwX0_later_0 : List UInt8 := [27, 155, 0, 22, 27, 17, 3, 232, 163, 0, 15, 42, 180, 1, 76, 27, 96, 19, 1, 85, 164, 0, 5, 2]
abbrev dktX0_later_0 : List UInt8 := dkwX0_later_0 ++ dktX0_later_1
theorem dksX0_later_0 : cX0_later.data.toList.drop 0 = dktX0_later_0 := by decide +kernel
theorem dksX0_later_1 : cX0_later.data.toList.drop 24 = dktX0_later_1 := dk_seg dksX0_later_0 24 rfl rfl
theorem dX0_later_0 : decode cX0_later 0 = .ok (.iload_n 1, 1) := dk_27 (dk_at dksX0_later_0 0 rfl rfl)
theorem dX0_later_1 : decode cX0_later 1 = .ok (.ifCond .lt 22, 3) := dk_155 0 22 (dk_at dksX0_later_0 1 rfl rfl)
theorem dX0_later_4 : decode cX0_later 4 = .ok (.iload_n 1, 1) := dk_27 (dk_at dksX0_later_0 4 rfl rfl)
theorem dX0_later_5 : decode cX0_later 5 = .ok (.sipush 1000, 3) := dk_17 3 232 (dk_at dksX0_later_0 5 rfl rfl)
theorem dX0_later_8 : decode cX0_later 8 = .ok (.if_icmp .gt 15, 3) := dk_163 0 15 (dk_at dksX0_later_0 8 rfl rfl)
theorem dX0_later_11 : decode cX0_later 11 = .ok (.aload_n 0, 1) := dk_42 (dk_at dksX0_later_0 11 rfl rfl)
theorem dX0_later_12 : decode cX0_later 12 = .ok (.getfield 332, 3) := dk_180 1 76 (dk_at dksX0_later_0 12 rfl rfl)
theorem dX0_later_15 : decode cX0_later 15 = .ok (.iload_n 1, 1) := dk_27 (dk_at dksX0_later_0 15 rfl rfl)
theorem dX0_later_16 : decode cX0_later 16 = .ok (.iadd, 1) := dk_96 (dk_at dksX0_later_0 16 rfl rfl)
theorem dX0_later_17 : decode cX0_later 17 = .ok (.ldc_w 341, 3) := dk_19 1 85 (dk_at dksX0_later_0 17 rfl rfl)
theorem dX0_later_20 : decode cX0_later 20 = .ok (.if_icmp .le 5, 3) := dk_164 0 5 (dk_at dksX0_later_0 20 rfl rfl)
theorem dX0_later_23 : decode cX0_later 23 = .ok (.iconst (-1), 1) := dk_2 (dk_at dksX0_later_0 23 rfl rfl)
theorem dX0_later_24 : decode cX0_later 24 = .ok (.ireturn, 1) := dk_172 (dk_at dksX0_later_1 0 rfl rfl)
theorem dX0_later_25 : decode cX0_later 25 = .ok (.aload_n 0, 1) := dk_42 (dk_at dksX0_later_1 1 rfl rfl)
theorem dX0_later_26 : decode cX0_later 26 = .ok (.dup, 1) := dk_89 (dk_at dksX0_later_1 2 rfl rfl)
theorem dX0_later_27 : decode cX0_later 27 = .ok (.getfield 332, 3) := dk_180 1 76 (dk_at dksX0_later_1 3 rfl rfl)
theorem dX0_later_30 : decode cX0_later 30 = .ok (.iload_n 1, 1) := dk_27 (dk_at dksX0_later_1 6 rfl rfl)
theorem dX0_later_31 : decode cX0_later 31 = .ok (.iadd, 1) := dk_96 (dk_at dksX0_later_1 7 rfl rfl)
theorem dX0_later_32 : decode cX0_later 32 = .ok (.putfield 332, 3) := dk_181 1 76 (dk_at dksX0_later_1 8 rfl rfl)
theorem dX0_later_35 : decode cX0_later 35 = .ok (.aload_n 0, 1) := dk_42 (dk_at dksX0_later_1 11 rfl rfl)
theorem dX0_later_36 : decode cX0_later 36 = .ok (.getfield 332, 3) := dk_180 1 76 (dk_at dksX0_later_1 12 rfl rfl)
theorem dX0_later_39 : decode cX0_later 39 = .ok (.ireturn, 1) := dk_172 (dk_at dksX0_later_1 15 rfl rfl)
abbrev cX0_fits : ByteArray := prog_1_method_55_code
def yX0_fits : MethodName := ⟨RX0, "fits", "(I)I"⟩
def dkwX0_fits_3 : List UInt8 := [132, 4, 1, 167, 255, 204, 42, 180, 0, 12, 44, 182, 0, 84, 29, 172]
abbrev dktX0_fits_3 : List UInt8 := dkwX0_fits_3 ++ []
def dkwX0_fits_2 : List UInt8 := [182, 0, 104, 192, 0, 112, 27, 182, 1, 100, 154, 0, 10, 4, 21, 4, 120, 167, 0, 4, 3, 128, 62]
abbrev dktX0_fits_2 : List UInt8 := dkwX0_fits_2 ++ dktX0_fits_3
def dkwX0_fits_1 : List UInt8 := [180, 0, 12, 180, 0, 97, 182, 0, 68, 162, 0, 43, 29, 42, 42, 180, 0, 12, 180, 0, 97, 21, 4]
abbrev dktX0_fits_1 : List UInt8 := dkwX0_fits_1 ++ dktX0_fits_2
def dkwX0_fits_0 : List UInt8 := [42, 180, 0, 12, 182, 0, 76, 77, 3, 62, 42, 180, 0, 12, 182, 1, 99, 3, 54, 4, 21, 4, 42]
abbrev dktX0_fits_0 : List UInt8 := dkwX0_fits_0 ++ dktX0_fits_1
theorem dksX0_fits_0 : cX0_fits.data.toList.drop 0 = dktX0_fits_0 := by decide +kernel
theorem dksX0_fits_1 : cX0_fits.data.toList.drop 23 = dktX0_fits_1 := dk_seg dksX0_fits_0 23 rfl rfl
theorem dksX0_fits_2 : cX0_fits.data.toList.drop 46 = dktX0_fits_2 := dk_seg dksX0_fits_1 23 rfl rfl
theorem dksX0_fits_3 : cX0_fits.data.toList.drop 69 = dktX0_fits_3 := dk_seg dksX0_fits_2 23 rfl rfl
theorem dX0_fits_0 : decode cX0_fits 0 = .ok (.aload_n 0, 1) := dk_42 (dk_at dksX0_fits_0 0 rfl rfl)
theorem dX0_fits_1 : decode cX0_fits 1 = .ok (.getfield 12, 3) := dk_180 0 12 (dk_at dksX0_fits_0 1 rfl rfl)
theorem dX0_fits_4 : decode cX0_fits 4 = .ok (.invokevirtual 76, 3) := dk_182 0 76 (dk_at dksX0_fits_0 4 rfl rfl)
theorem dX0_fits_7 : decode cX0_fits 7 = .ok (.astore_n 2, 1) := dk_77 (dk_at dksX0_fits_0 7 rfl rfl)
theorem dX0_fits_8 : decode cX0_fits 8 = .ok (.iconst 0, 1) := dk_3 (dk_at dksX0_fits_0 8 rfl rfl)
theorem dX0_fits_9 : decode cX0_fits 9 = .ok (.istore_n 3, 1) := dk_62 (dk_at dksX0_fits_0 9 rfl rfl)
theorem dX0_fits_10 : decode cX0_fits 10 = .ok (.aload_n 0, 1) := dk_42 (dk_at dksX0_fits_0 10 rfl rfl)
theorem dX0_fits_11 : decode cX0_fits 11 = .ok (.getfield 12, 3) := dk_180 0 12 (dk_at dksX0_fits_0 11 rfl rfl)
theorem dX0_fits_14 : decode cX0_fits 14 = .ok (.invokevirtual 355, 3) := dk_182 1 99 (dk_at dksX0_fits_0 14 rfl rfl)
theorem dX0_fits_17 : decode cX0_fits 17 = .ok (.iconst 0, 1) := dk_3 (dk_at dksX0_fits_0 17 rfl rfl)
theorem dX0_fits_18 : decode cX0_fits 18 = .ok (.istore 4, 2) := dk_54 4 (dk_at dksX0_fits_0 18 rfl rfl)
theorem dX0_fits_20 : decode cX0_fits 20 = .ok (.iload 4, 2) := dk_21 4 (dk_at dksX0_fits_0 20 rfl rfl)
theorem dX0_fits_22 : decode cX0_fits 22 = .ok (.aload_n 0, 1) := dk_42 (dk_at dksX0_fits_0 22 rfl rfl)
theorem dX0_fits_23 : decode cX0_fits 23 = .ok (.getfield 12, 3) := dk_180 0 12 (dk_at dksX0_fits_1 0 rfl rfl)
theorem dX0_fits_26 : decode cX0_fits 26 = .ok (.getfield 97, 3) := dk_180 0 97 (dk_at dksX0_fits_1 3 rfl rfl)
theorem dX0_fits_29 : decode cX0_fits 29 = .ok (.invokevirtual 68, 3) := dk_182 0 68 (dk_at dksX0_fits_1 6 rfl rfl)
theorem dX0_fits_32 : decode cX0_fits 32 = .ok (.if_icmp .ge 43, 3) := dk_162 0 43 (dk_at dksX0_fits_1 9 rfl rfl)
theorem dX0_fits_35 : decode cX0_fits 35 = .ok (.iload_n 3, 1) := dk_29 (dk_at dksX0_fits_1 12 rfl rfl)
theorem dX0_fits_36 : decode cX0_fits 36 = .ok (.aload_n 0, 1) := dk_42 (dk_at dksX0_fits_1 13 rfl rfl)
theorem dX0_fits_37 : decode cX0_fits 37 = .ok (.aload_n 0, 1) := dk_42 (dk_at dksX0_fits_1 14 rfl rfl)
theorem dX0_fits_38 : decode cX0_fits 38 = .ok (.getfield 12, 3) := dk_180 0 12 (dk_at dksX0_fits_1 15 rfl rfl)
theorem dX0_fits_41 : decode cX0_fits 41 = .ok (.getfield 97, 3) := dk_180 0 97 (dk_at dksX0_fits_1 18 rfl rfl)
theorem dX0_fits_44 : decode cX0_fits 44 = .ok (.iload 4, 2) := dk_21 4 (dk_at dksX0_fits_1 21 rfl rfl)
theorem dX0_fits_46 : decode cX0_fits 46 = .ok (.invokevirtual 104, 3) := dk_182 0 104 (dk_at dksX0_fits_2 0 rfl rfl)
theorem dX0_fits_49 : decode cX0_fits 49 = .ok (.checkcast 112, 3) := dk_192 0 112 (dk_at dksX0_fits_2 3 rfl rfl)
theorem dX0_fits_52 : decode cX0_fits 52 = .ok (.iload_n 1, 1) := dk_27 (dk_at dksX0_fits_2 6 rfl rfl)
theorem dX0_fits_53 : decode cX0_fits 53 = .ok (.invokevirtual 356, 3) := dk_182 1 100 (dk_at dksX0_fits_2 7 rfl rfl)
theorem dX0_fits_56 : decode cX0_fits 56 = .ok (.ifCond .ne 10, 3) := dk_154 0 10 (dk_at dksX0_fits_2 10 rfl rfl)
theorem dX0_fits_59 : decode cX0_fits 59 = .ok (.iconst 1, 1) := dk_4 (dk_at dksX0_fits_2 13 rfl rfl)
theorem dX0_fits_60 : decode cX0_fits 60 = .ok (.iload 4, 2) := dk_21 4 (dk_at dksX0_fits_2 14 rfl rfl)
theorem dX0_fits_62 : decode cX0_fits 62 = .ok (.ishl, 1) := dk_120 (dk_at dksX0_fits_2 16 rfl rfl)
theorem dX0_fits_63 : decode cX0_fits 63 = .ok (.goto 4, 3) := dk_167 0 4 (dk_at dksX0_fits_2 17 rfl rfl)
theorem dX0_fits_66 : decode cX0_fits 66 = .ok (.iconst 0, 1) := dk_3 (dk_at dksX0_fits_2 20 rfl rfl)
theorem dX0_fits_67 : decode cX0_fits 67 = .ok (.ior, 1) := dk_128 (dk_at dksX0_fits_2 21 rfl rfl)
theorem dX0_fits_68 : decode cX0_fits 68 = .ok (.istore_n 3, 1) := dk_62 (dk_at dksX0_fits_2 22 rfl rfl)
theorem dX0_fits_69 : decode cX0_fits 69 = .ok (.iinc 4 1, 3) := dk_132 4 1 (dk_at dksX0_fits_3 0 rfl rfl)
theorem dX0_fits_72 : decode cX0_fits 72 = .ok (.goto (-52), 3) := dk_167 255 204 (dk_at dksX0_fits_3 3 rfl rfl)
theorem dX0_fits_75 : decode cX0_fits 75 = .ok (.aload_n 0, 1) := dk_42 (dk_at dksX0_fits_3 6 rfl rfl)
theorem dX0_fits_76 : decode cX0_fits 76 = .ok (.getfield 12, 3) := dk_180 0 12 (dk_at dksX0_fits_3 7 rfl rfl)
theorem dX0_fits_79 : decode cX0_fits 79 = .ok (.aload_n 2, 1) := dk_44 (dk_at dksX0_fits_3 10 rfl rfl)
theorem dX0_fits_80 : decode cX0_fits 80 = .ok (.invokevirtual 84, 3) := dk_182 0 84 (dk_at dksX0_fits_3 11 rfl rfl)
theorem dX0_fits_83 : decode cX0_fits 83 = .ok (.iload_n 3, 1) := dk_29 (dk_at dksX0_fits_3 14 rfl rfl)
theorem dX0_fits_84 : decode cX0_fits 84 = .ok (.ireturn, 1) := dk_172 (dk_at dksX0_fits_3 15 rfl rfl)
abbrev cX0_wrongBy : ByteArray := prog_1_method_56_code
def yX0_wrongBy : MethodName := ⟨RX0, "wrongBy", "(LTubBites$Rule;I)I"⟩
def dkwX0_wrongBy_2 : List UInt8 := [192, 1, 74, 182, 1, 107, 154, 0, 6, 132, 3, 1, 132, 4, 1, 167, 255, 199, 29, 172]
abbrev dktX0_wrongBy_2 : List UInt8 := dkwX0_wrongBy_2 ++ []
def dkwX0_wrongBy_1 : List UInt8 := [182, 0, 104, 192, 1, 74, 28, 182, 1, 104, 153, 0, 26, 42, 43, 42, 180, 0, 44, 21, 4, 182, 0, 104]
abbrev dktX0_wrongBy_1 : List UInt8 := dkwX0_wrongBy_1 ++ dktX0_wrongBy_2
def dkwX0_wrongBy_0 : List UInt8 := [3, 62, 3, 54, 4, 21, 4, 42, 180, 0, 44, 182, 0, 68, 162, 0, 51, 42, 180, 0, 44, 21, 4]
abbrev dktX0_wrongBy_0 : List UInt8 := dkwX0_wrongBy_0 ++ dktX0_wrongBy_1
theorem dksX0_wrongBy_0 : cX0_wrongBy.data.toList.drop 0 = dktX0_wrongBy_0 := by decide +kernel
theorem dksX0_wrongBy_1 : cX0_wrongBy.data.toList.drop 23 = dktX0_wrongBy_1 := dk_seg dksX0_wrongBy_0 23 rfl rfl
theorem dksX0_wrongBy_2 : cX0_wrongBy.data.toList.drop 47 = dktX0_wrongBy_2 := dk_seg dksX0_wrongBy_1 24 rfl rfl
theorem dX0_wrongBy_0 : decode cX0_wrongBy 0 = .ok (.iconst 0, 1) := dk_3 (dk_at dksX0_wrongBy_0 0 rfl rfl)
theorem dX0_wrongBy_1 : decode cX0_wrongBy 1 = .ok (.istore_n 3, 1) := dk_62 (dk_at dksX0_wrongBy_0 1 rfl rfl)
theorem dX0_wrongBy_2 : decode cX0_wrongBy 2 = .ok (.iconst 0, 1) := dk_3 (dk_at dksX0_wrongBy_0 2 rfl rfl)
theorem dX0_wrongBy_3 : decode cX0_wrongBy 3 = .ok (.istore 4, 2) := dk_54 4 (dk_at dksX0_wrongBy_0 3 rfl rfl)
theorem dX0_wrongBy_5 : decode cX0_wrongBy 5 = .ok (.iload 4, 2) := dk_21 4 (dk_at dksX0_wrongBy_0 5 rfl rfl)
theorem dX0_wrongBy_7 : decode cX0_wrongBy 7 = .ok (.aload_n 0, 1) := dk_42 (dk_at dksX0_wrongBy_0 7 rfl rfl)
theorem dX0_wrongBy_8 : decode cX0_wrongBy 8 = .ok (.getfield 44, 3) := dk_180 0 44 (dk_at dksX0_wrongBy_0 8 rfl rfl)
theorem dX0_wrongBy_11 : decode cX0_wrongBy 11 = .ok (.invokevirtual 68, 3) := dk_182 0 68 (dk_at dksX0_wrongBy_0 11 rfl rfl)
theorem dX0_wrongBy_14 : decode cX0_wrongBy 14 = .ok (.if_icmp .ge 51, 3) := dk_162 0 51 (dk_at dksX0_wrongBy_0 14 rfl rfl)
theorem dX0_wrongBy_17 : decode cX0_wrongBy 17 = .ok (.aload_n 0, 1) := dk_42 (dk_at dksX0_wrongBy_0 17 rfl rfl)
theorem dX0_wrongBy_18 : decode cX0_wrongBy 18 = .ok (.getfield 44, 3) := dk_180 0 44 (dk_at dksX0_wrongBy_0 18 rfl rfl)
theorem dX0_wrongBy_21 : decode cX0_wrongBy 21 = .ok (.iload 4, 2) := dk_21 4 (dk_at dksX0_wrongBy_0 21 rfl rfl)
theorem dX0_wrongBy_23 : decode cX0_wrongBy 23 = .ok (.invokevirtual 104, 3) := dk_182 0 104 (dk_at dksX0_wrongBy_1 0 rfl rfl)
theorem dX0_wrongBy_26 : decode cX0_wrongBy 26 = .ok (.checkcast 330, 3) := dk_192 1 74 (dk_at dksX0_wrongBy_1 3 rfl rfl)
theorem dX0_wrongBy_29 : decode cX0_wrongBy 29 = .ok (.iload_n 2, 1) := dk_28 (dk_at dksX0_wrongBy_1 6 rfl rfl)
theorem dX0_wrongBy_30 : decode cX0_wrongBy 30 = .ok (.invokevirtual 360, 3) := dk_182 1 104 (dk_at dksX0_wrongBy_1 7 rfl rfl)
theorem dX0_wrongBy_33 : decode cX0_wrongBy 33 = .ok (.ifCond .eq 26, 3) := dk_153 0 26 (dk_at dksX0_wrongBy_1 10 rfl rfl)
theorem dX0_wrongBy_36 : decode cX0_wrongBy 36 = .ok (.aload_n 0, 1) := dk_42 (dk_at dksX0_wrongBy_1 13 rfl rfl)
theorem dX0_wrongBy_37 : decode cX0_wrongBy 37 = .ok (.aload_n 1, 1) := dk_43 (dk_at dksX0_wrongBy_1 14 rfl rfl)
theorem dX0_wrongBy_38 : decode cX0_wrongBy 38 = .ok (.aload_n 0, 1) := dk_42 (dk_at dksX0_wrongBy_1 15 rfl rfl)
theorem dX0_wrongBy_39 : decode cX0_wrongBy 39 = .ok (.getfield 44, 3) := dk_180 0 44 (dk_at dksX0_wrongBy_1 16 rfl rfl)
theorem dX0_wrongBy_42 : decode cX0_wrongBy 42 = .ok (.iload 4, 2) := dk_21 4 (dk_at dksX0_wrongBy_1 19 rfl rfl)
theorem dX0_wrongBy_44 : decode cX0_wrongBy 44 = .ok (.invokevirtual 104, 3) := dk_182 0 104 (dk_at dksX0_wrongBy_1 21 rfl rfl)
theorem dX0_wrongBy_47 : decode cX0_wrongBy 47 = .ok (.checkcast 330, 3) := dk_192 1 74 (dk_at dksX0_wrongBy_2 0 rfl rfl)
theorem dX0_wrongBy_50 : decode cX0_wrongBy 50 = .ok (.invokevirtual 363, 3) := dk_182 1 107 (dk_at dksX0_wrongBy_2 3 rfl rfl)
theorem dX0_wrongBy_53 : decode cX0_wrongBy 53 = .ok (.ifCond .ne 6, 3) := dk_154 0 6 (dk_at dksX0_wrongBy_2 6 rfl rfl)
theorem dX0_wrongBy_56 : decode cX0_wrongBy 56 = .ok (.iinc 3 1, 3) := dk_132 3 1 (dk_at dksX0_wrongBy_2 9 rfl rfl)
theorem dX0_wrongBy_59 : decode cX0_wrongBy 59 = .ok (.iinc 4 1, 3) := dk_132 4 1 (dk_at dksX0_wrongBy_2 12 rfl rfl)
theorem dX0_wrongBy_62 : decode cX0_wrongBy 62 = .ok (.goto (-57), 3) := dk_167 255 199 (dk_at dksX0_wrongBy_2 15 rfl rfl)
theorem dX0_wrongBy_65 : decode cX0_wrongBy 65 = .ok (.iload_n 3, 1) := dk_29 (dk_at dksX0_wrongBy_2 18 rfl rfl)
theorem dX0_wrongBy_66 : decode cX0_wrongBy 66 = .ok (.ireturn, 1) := dk_172 (dk_at dksX0_wrongBy_2 19 rfl rfl)
abbrev cX0_doesTake : ByteArray := prog_1_method_54_code
def yX0_doesTake : MethodName := ⟨RX0, "doesTake", "(LTubBites$Rule;LTubBites$Pick;)Z"⟩
def dkwX0_doesTake_5 : List UInt8 := [160, 0, 7, 4, 167, 0, 4, 3, 172]
abbrev dktX0_doesTake_5 : List UInt8 := dkwX0_doesTake_5 ++ []
def dkwX0_doesTake_4 : List UInt8 := [167, 0, 11, 21, 6, 54, 4, 21, 7, 54, 5, 132, 6, 1, 167, 255, 173, 21, 4, 44, 180, 1, 96]
abbrev dktX0_doesTake_4 : List UInt8 := dkwX0_doesTake_4 ++ dktX0_doesTake_5
def dkwX0_doesTake_3 : List UInt8 := [182, 0, 104, 192, 0, 145, 3, 182, 1, 92, 54, 7, 21, 4, 155, 0, 13, 21, 7, 21, 5, 163, 0, 6]
abbrev dktX0_doesTake_3 : List UInt8 := dkwX0_doesTake_3 ++ dktX0_doesTake_4
def dkwX0_doesTake_2 : List UInt8 := [122, 4, 126, 154, 0, 6, 167, 0, 53, 42, 180, 0, 12, 43, 45, 42, 180, 0, 12, 180, 0, 87, 21, 6]
abbrev dktX0_doesTake_2 : List UInt8 := dkwX0_doesTake_2 ++ dktX0_doesTake_3
def dkwX0_doesTake_1 : List UInt8 := [3, 54, 6, 21, 6, 42, 180, 0, 12, 180, 0, 87, 182, 0, 68, 162, 0, 74, 44, 180, 1, 89, 21, 6]
abbrev dktX0_doesTake_1 : List UInt8 := dkwX0_doesTake_1 ++ dktX0_doesTake_2
def dkwX0_doesTake_0 : List UInt8 := [42, 180, 0, 12, 180, 0, 94, 44, 180, 1, 86, 182, 0, 104, 192, 0, 107, 78, 2, 54, 4, 3, 54, 5]
abbrev dktX0_doesTake_0 : List UInt8 := dkwX0_doesTake_0 ++ dktX0_doesTake_1
theorem dksX0_doesTake_0 : cX0_doesTake.data.toList.drop 0 = dktX0_doesTake_0 := by decide +kernel
theorem dksX0_doesTake_1 : cX0_doesTake.data.toList.drop 24 = dktX0_doesTake_1 := dk_seg dksX0_doesTake_0 24 rfl rfl
theorem dksX0_doesTake_2 : cX0_doesTake.data.toList.drop 48 = dktX0_doesTake_2 := dk_seg dksX0_doesTake_1 24 rfl rfl
theorem dksX0_doesTake_3 : cX0_doesTake.data.toList.drop 72 = dktX0_doesTake_3 := dk_seg dksX0_doesTake_2 24 rfl rfl
theorem dksX0_doesTake_4 : cX0_doesTake.data.toList.drop 96 = dktX0_doesTake_4 := dk_seg dksX0_doesTake_3 24 rfl rfl
theorem dksX0_doesTake_5 : cX0_doesTake.data.toList.drop 119 = dktX0_doesTake_5 := dk_seg dksX0_doesTake_4 23 rfl rfl
theorem dX0_doesTake_0 : decode cX0_doesTake 0 = .ok (.aload_n 0, 1) := dk_42 (dk_at dksX0_doesTake_0 0 rfl rfl)
theorem dX0_doesTake_1 : decode cX0_doesTake 1 = .ok (.getfield 12, 3) := dk_180 0 12 (dk_at dksX0_doesTake_0 1 rfl rfl)
theorem dX0_doesTake_4 : decode cX0_doesTake 4 = .ok (.getfield 94, 3) := dk_180 0 94 (dk_at dksX0_doesTake_0 4 rfl rfl)
theorem dX0_doesTake_7 : decode cX0_doesTake 7 = .ok (.aload_n 2, 1) := dk_44 (dk_at dksX0_doesTake_0 7 rfl rfl)
theorem dX0_doesTake_8 : decode cX0_doesTake 8 = .ok (.getfield 342, 3) := dk_180 1 86 (dk_at dksX0_doesTake_0 8 rfl rfl)
theorem dX0_doesTake_11 : decode cX0_doesTake 11 = .ok (.invokevirtual 104, 3) := dk_182 0 104 (dk_at dksX0_doesTake_0 11 rfl rfl)
theorem dX0_doesTake_14 : decode cX0_doesTake 14 = .ok (.checkcast 107, 3) := dk_192 0 107 (dk_at dksX0_doesTake_0 14 rfl rfl)
theorem dX0_doesTake_17 : decode cX0_doesTake 17 = .ok (.astore_n 3, 1) := dk_78 (dk_at dksX0_doesTake_0 17 rfl rfl)
theorem dX0_doesTake_18 : decode cX0_doesTake 18 = .ok (.iconst (-1), 1) := dk_2 (dk_at dksX0_doesTake_0 18 rfl rfl)
theorem dX0_doesTake_19 : decode cX0_doesTake 19 = .ok (.istore 4, 2) := dk_54 4 (dk_at dksX0_doesTake_0 19 rfl rfl)
theorem dX0_doesTake_21 : decode cX0_doesTake 21 = .ok (.iconst 0, 1) := dk_3 (dk_at dksX0_doesTake_0 21 rfl rfl)
theorem dX0_doesTake_22 : decode cX0_doesTake 22 = .ok (.istore 5, 2) := dk_54 5 (dk_at dksX0_doesTake_0 22 rfl rfl)
theorem dX0_doesTake_24 : decode cX0_doesTake 24 = .ok (.iconst 0, 1) := dk_3 (dk_at dksX0_doesTake_1 0 rfl rfl)
theorem dX0_doesTake_25 : decode cX0_doesTake 25 = .ok (.istore 6, 2) := dk_54 6 (dk_at dksX0_doesTake_1 1 rfl rfl)
theorem dX0_doesTake_27 : decode cX0_doesTake 27 = .ok (.iload 6, 2) := dk_21 6 (dk_at dksX0_doesTake_1 3 rfl rfl)
theorem dX0_doesTake_29 : decode cX0_doesTake 29 = .ok (.aload_n 0, 1) := dk_42 (dk_at dksX0_doesTake_1 5 rfl rfl)
theorem dX0_doesTake_30 : decode cX0_doesTake 30 = .ok (.getfield 12, 3) := dk_180 0 12 (dk_at dksX0_doesTake_1 6 rfl rfl)
theorem dX0_doesTake_33 : decode cX0_doesTake 33 = .ok (.getfield 87, 3) := dk_180 0 87 (dk_at dksX0_doesTake_1 9 rfl rfl)
theorem dX0_doesTake_36 : decode cX0_doesTake 36 = .ok (.invokevirtual 68, 3) := dk_182 0 68 (dk_at dksX0_doesTake_1 12 rfl rfl)
theorem dX0_doesTake_39 : decode cX0_doesTake 39 = .ok (.if_icmp .ge 74, 3) := dk_162 0 74 (dk_at dksX0_doesTake_1 15 rfl rfl)
theorem dX0_doesTake_42 : decode cX0_doesTake 42 = .ok (.aload_n 2, 1) := dk_44 (dk_at dksX0_doesTake_1 18 rfl rfl)
theorem dX0_doesTake_43 : decode cX0_doesTake 43 = .ok (.getfield 345, 3) := dk_180 1 89 (dk_at dksX0_doesTake_1 19 rfl rfl)
theorem dX0_doesTake_46 : decode cX0_doesTake 46 = .ok (.iload 6, 2) := dk_21 6 (dk_at dksX0_doesTake_1 22 rfl rfl)
theorem dX0_doesTake_48 : decode cX0_doesTake 48 = .ok (.ishr, 1) := dk_122 (dk_at dksX0_doesTake_2 0 rfl rfl)
theorem dX0_doesTake_49 : decode cX0_doesTake 49 = .ok (.iconst 1, 1) := dk_4 (dk_at dksX0_doesTake_2 1 rfl rfl)
theorem dX0_doesTake_50 : decode cX0_doesTake 50 = .ok (.iand, 1) := dk_126 (dk_at dksX0_doesTake_2 2 rfl rfl)
theorem dX0_doesTake_51 : decode cX0_doesTake 51 = .ok (.ifCond .ne 6, 3) := dk_154 0 6 (dk_at dksX0_doesTake_2 3 rfl rfl)
theorem dX0_doesTake_54 : decode cX0_doesTake 54 = .ok (.goto 53, 3) := dk_167 0 53 (dk_at dksX0_doesTake_2 6 rfl rfl)
theorem dX0_doesTake_57 : decode cX0_doesTake 57 = .ok (.aload_n 0, 1) := dk_42 (dk_at dksX0_doesTake_2 9 rfl rfl)
theorem dX0_doesTake_58 : decode cX0_doesTake 58 = .ok (.getfield 12, 3) := dk_180 0 12 (dk_at dksX0_doesTake_2 10 rfl rfl)
theorem dX0_doesTake_61 : decode cX0_doesTake 61 = .ok (.aload_n 1, 1) := dk_43 (dk_at dksX0_doesTake_2 13 rfl rfl)
theorem dX0_doesTake_62 : decode cX0_doesTake 62 = .ok (.aload_n 3, 1) := dk_45 (dk_at dksX0_doesTake_2 14 rfl rfl)
theorem dX0_doesTake_63 : decode cX0_doesTake 63 = .ok (.aload_n 0, 1) := dk_42 (dk_at dksX0_doesTake_2 15 rfl rfl)
theorem dX0_doesTake_64 : decode cX0_doesTake 64 = .ok (.getfield 12, 3) := dk_180 0 12 (dk_at dksX0_doesTake_2 16 rfl rfl)
theorem dX0_doesTake_67 : decode cX0_doesTake 67 = .ok (.getfield 87, 3) := dk_180 0 87 (dk_at dksX0_doesTake_2 19 rfl rfl)
theorem dX0_doesTake_70 : decode cX0_doesTake 70 = .ok (.iload 6, 2) := dk_21 6 (dk_at dksX0_doesTake_2 22 rfl rfl)
theorem dX0_doesTake_72 : decode cX0_doesTake 72 = .ok (.invokevirtual 104, 3) := dk_182 0 104 (dk_at dksX0_doesTake_3 0 rfl rfl)
theorem dX0_doesTake_75 : decode cX0_doesTake 75 = .ok (.checkcast 145, 3) := dk_192 0 145 (dk_at dksX0_doesTake_3 3 rfl rfl)
theorem dX0_doesTake_78 : decode cX0_doesTake 78 = .ok (.iconst 0, 1) := dk_3 (dk_at dksX0_doesTake_3 6 rfl rfl)
theorem dX0_doesTake_79 : decode cX0_doesTake 79 = .ok (.invokevirtual 348, 3) := dk_182 1 92 (dk_at dksX0_doesTake_3 7 rfl rfl)
theorem dX0_doesTake_82 : decode cX0_doesTake 82 = .ok (.istore 7, 2) := dk_54 7 (dk_at dksX0_doesTake_3 10 rfl rfl)
theorem dX0_doesTake_84 : decode cX0_doesTake 84 = .ok (.iload 4, 2) := dk_21 4 (dk_at dksX0_doesTake_3 12 rfl rfl)
theorem dX0_doesTake_86 : decode cX0_doesTake 86 = .ok (.ifCond .lt 13, 3) := dk_155 0 13 (dk_at dksX0_doesTake_3 14 rfl rfl)
theorem dX0_doesTake_89 : decode cX0_doesTake 89 = .ok (.iload 7, 2) := dk_21 7 (dk_at dksX0_doesTake_3 17 rfl rfl)
theorem dX0_doesTake_91 : decode cX0_doesTake 91 = .ok (.iload 5, 2) := dk_21 5 (dk_at dksX0_doesTake_3 19 rfl rfl)
theorem dX0_doesTake_93 : decode cX0_doesTake 93 = .ok (.if_icmp .gt 6, 3) := dk_163 0 6 (dk_at dksX0_doesTake_3 21 rfl rfl)
theorem dX0_doesTake_96 : decode cX0_doesTake 96 = .ok (.goto 11, 3) := dk_167 0 11 (dk_at dksX0_doesTake_4 0 rfl rfl)
theorem dX0_doesTake_99 : decode cX0_doesTake 99 = .ok (.iload 6, 2) := dk_21 6 (dk_at dksX0_doesTake_4 3 rfl rfl)
theorem dX0_doesTake_101 : decode cX0_doesTake 101 = .ok (.istore 4, 2) := dk_54 4 (dk_at dksX0_doesTake_4 5 rfl rfl)
theorem dX0_doesTake_103 : decode cX0_doesTake 103 = .ok (.iload 7, 2) := dk_21 7 (dk_at dksX0_doesTake_4 7 rfl rfl)
theorem dX0_doesTake_105 : decode cX0_doesTake 105 = .ok (.istore 5, 2) := dk_54 5 (dk_at dksX0_doesTake_4 9 rfl rfl)
theorem dX0_doesTake_107 : decode cX0_doesTake 107 = .ok (.iinc 6 1, 3) := dk_132 6 1 (dk_at dksX0_doesTake_4 11 rfl rfl)
theorem dX0_doesTake_110 : decode cX0_doesTake 110 = .ok (.goto (-83), 3) := dk_167 255 173 (dk_at dksX0_doesTake_4 14 rfl rfl)
theorem dX0_doesTake_113 : decode cX0_doesTake 113 = .ok (.iload 4, 2) := dk_21 4 (dk_at dksX0_doesTake_4 17 rfl rfl)
theorem dX0_doesTake_115 : decode cX0_doesTake 115 = .ok (.aload_n 2, 1) := dk_44 (dk_at dksX0_doesTake_4 19 rfl rfl)
theorem dX0_doesTake_116 : decode cX0_doesTake 116 = .ok (.getfield 352, 3) := dk_180 1 96 (dk_at dksX0_doesTake_4 20 rfl rfl)
theorem dX0_doesTake_119 : decode cX0_doesTake 119 = .ok (.if_icmp .ne 7, 3) := dk_160 0 7 (dk_at dksX0_doesTake_5 0 rfl rfl)
theorem dX0_doesTake_122 : decode cX0_doesTake 122 = .ok (.iconst 1, 1) := dk_4 (dk_at dksX0_doesTake_5 3 rfl rfl)
theorem dX0_doesTake_123 : decode cX0_doesTake 123 = .ok (.goto 4, 3) := dk_167 0 4 (dk_at dksX0_doesTake_5 4 rfl rfl)
theorem dX0_doesTake_126 : decode cX0_doesTake 126 = .ok (.iconst 0, 1) := dk_3 (dk_at dksX0_doesTake_5 7 rfl rfl)
theorem dX0_doesTake_127 : decode cX0_doesTake 127 = .ok (.ireturn, 1) := dk_172 (dk_at dksX0_doesTake_5 8 rfl rfl)
abbrev cX0_nearest : ByteArray := prog_1_method_57_code
def yX0_nearest : MethodName := ⟨RX0, "nearest", "(II)I"⟩
def dkwX0_nearest_6 : List UInt8 := [45, 182, 0, 84, 27, 154, 0, 8, 21, 4, 167, 0, 5, 21, 5, 172]
abbrev dktX0_nearest_6 : List UInt8 := dkwX0_nearest_6 ++ []
def dkwX0_nearest_5 : List UInt8 := [180, 0, 12, 180, 0, 97, 21, 4, 182, 0, 104, 192, 0, 112, 28, 182, 1, 100, 54, 5, 42, 180, 0, 12]
abbrev dktX0_nearest_5 : List UInt8 := dkwX0_nearest_5 ++ dktX0_nearest_6
def dkwX0_nearest_4 : List UInt8 := [192, 0, 112, 28, 182, 1, 100, 162, 0, 7, 21, 5, 54, 4, 132, 5, 1, 167, 255, 191, 42, 42]
abbrev dktX0_nearest_4 : List UInt8 := dkwX0_nearest_4 ++ dktX0_nearest_5
def dkwX0_nearest_3 : List UInt8 := [182, 0, 104, 192, 0, 112, 28, 182, 1, 100, 42, 42, 180, 0, 12, 180, 0, 97, 21, 4, 182, 0, 104]
abbrev dktX0_nearest_3 : List UInt8 := dkwX0_nearest_3 ++ dktX0_nearest_4
def dkwX0_nearest_2 : List UInt8 := [180, 0, 12, 180, 0, 97, 182, 0, 68, 162, 0, 56, 42, 42, 180, 0, 12, 180, 0, 97, 21, 5]
abbrev dktX0_nearest_2 : List UInt8 := dkwX0_nearest_2 ++ dktX0_nearest_3
def dkwX0_nearest_1 : List UInt8 := [42, 180, 0, 12, 182, 0, 76, 78, 3, 54, 4, 42, 180, 0, 12, 182, 1, 99, 4, 54, 5, 21, 5, 42]
abbrev dktX0_nearest_1 : List UInt8 := dkwX0_nearest_1 ++ dktX0_nearest_2
def dkwX0_nearest_0 : List UInt8 := [27, 3, 4, 184, 0, 90, 153, 0, 16, 42, 180, 0, 12, 180, 0, 97, 182, 0, 100, 153, 0, 5, 2, 172]
abbrev dktX0_nearest_0 : List UInt8 := dkwX0_nearest_0 ++ dktX0_nearest_1
theorem dksX0_nearest_0 : cX0_nearest.data.toList.drop 0 = dktX0_nearest_0 := by decide +kernel
theorem dksX0_nearest_1 : cX0_nearest.data.toList.drop 24 = dktX0_nearest_1 := dk_seg dksX0_nearest_0 24 rfl rfl
theorem dksX0_nearest_2 : cX0_nearest.data.toList.drop 48 = dktX0_nearest_2 := dk_seg dksX0_nearest_1 24 rfl rfl
theorem dksX0_nearest_3 : cX0_nearest.data.toList.drop 70 = dktX0_nearest_3 := dk_seg dksX0_nearest_2 22 rfl rfl
theorem dksX0_nearest_4 : cX0_nearest.data.toList.drop 93 = dktX0_nearest_4 := dk_seg dksX0_nearest_3 23 rfl rfl
theorem dksX0_nearest_5 : cX0_nearest.data.toList.drop 115 = dktX0_nearest_5 := dk_seg dksX0_nearest_4 22 rfl rfl
theorem dksX0_nearest_6 : cX0_nearest.data.toList.drop 139 = dktX0_nearest_6 := dk_seg dksX0_nearest_5 24 rfl rfl
theorem dX0_nearest_0 : decode cX0_nearest 0 = .ok (.iload_n 1, 1) := dk_27 (dk_at dksX0_nearest_0 0 rfl rfl)
theorem dX0_nearest_1 : decode cX0_nearest 1 = .ok (.iconst 0, 1) := dk_3 (dk_at dksX0_nearest_0 1 rfl rfl)
theorem dX0_nearest_2 : decode cX0_nearest 2 = .ok (.iconst 1, 1) := dk_4 (dk_at dksX0_nearest_0 2 rfl rfl)
theorem dX0_nearest_3 : decode cX0_nearest 3 = .ok (.invokestatic 90, 3) := dk_184 0 90 (dk_at dksX0_nearest_0 3 rfl rfl)
theorem dX0_nearest_6 : decode cX0_nearest 6 = .ok (.ifCond .eq 16, 3) := dk_153 0 16 (dk_at dksX0_nearest_0 6 rfl rfl)
theorem dX0_nearest_9 : decode cX0_nearest 9 = .ok (.aload_n 0, 1) := dk_42 (dk_at dksX0_nearest_0 9 rfl rfl)
theorem dX0_nearest_10 : decode cX0_nearest 10 = .ok (.getfield 12, 3) := dk_180 0 12 (dk_at dksX0_nearest_0 10 rfl rfl)
theorem dX0_nearest_13 : decode cX0_nearest 13 = .ok (.getfield 97, 3) := dk_180 0 97 (dk_at dksX0_nearest_0 13 rfl rfl)
theorem dX0_nearest_16 : decode cX0_nearest 16 = .ok (.invokevirtual 100, 3) := dk_182 0 100 (dk_at dksX0_nearest_0 16 rfl rfl)
theorem dX0_nearest_19 : decode cX0_nearest 19 = .ok (.ifCond .eq 5, 3) := dk_153 0 5 (dk_at dksX0_nearest_0 19 rfl rfl)
theorem dX0_nearest_22 : decode cX0_nearest 22 = .ok (.iconst (-1), 1) := dk_2 (dk_at dksX0_nearest_0 22 rfl rfl)
theorem dX0_nearest_23 : decode cX0_nearest 23 = .ok (.ireturn, 1) := dk_172 (dk_at dksX0_nearest_0 23 rfl rfl)
theorem dX0_nearest_24 : decode cX0_nearest 24 = .ok (.aload_n 0, 1) := dk_42 (dk_at dksX0_nearest_1 0 rfl rfl)
theorem dX0_nearest_25 : decode cX0_nearest 25 = .ok (.getfield 12, 3) := dk_180 0 12 (dk_at dksX0_nearest_1 1 rfl rfl)
theorem dX0_nearest_28 : decode cX0_nearest 28 = .ok (.invokevirtual 76, 3) := dk_182 0 76 (dk_at dksX0_nearest_1 4 rfl rfl)
theorem dX0_nearest_31 : decode cX0_nearest 31 = .ok (.astore_n 3, 1) := dk_78 (dk_at dksX0_nearest_1 7 rfl rfl)
theorem dX0_nearest_32 : decode cX0_nearest 32 = .ok (.iconst 0, 1) := dk_3 (dk_at dksX0_nearest_1 8 rfl rfl)
theorem dX0_nearest_33 : decode cX0_nearest 33 = .ok (.istore 4, 2) := dk_54 4 (dk_at dksX0_nearest_1 9 rfl rfl)
theorem dX0_nearest_35 : decode cX0_nearest 35 = .ok (.aload_n 0, 1) := dk_42 (dk_at dksX0_nearest_1 11 rfl rfl)
theorem dX0_nearest_36 : decode cX0_nearest 36 = .ok (.getfield 12, 3) := dk_180 0 12 (dk_at dksX0_nearest_1 12 rfl rfl)
theorem dX0_nearest_39 : decode cX0_nearest 39 = .ok (.invokevirtual 355, 3) := dk_182 1 99 (dk_at dksX0_nearest_1 15 rfl rfl)
theorem dX0_nearest_42 : decode cX0_nearest 42 = .ok (.iconst 1, 1) := dk_4 (dk_at dksX0_nearest_1 18 rfl rfl)
theorem dX0_nearest_43 : decode cX0_nearest 43 = .ok (.istore 5, 2) := dk_54 5 (dk_at dksX0_nearest_1 19 rfl rfl)
theorem dX0_nearest_45 : decode cX0_nearest 45 = .ok (.iload 5, 2) := dk_21 5 (dk_at dksX0_nearest_1 21 rfl rfl)
theorem dX0_nearest_47 : decode cX0_nearest 47 = .ok (.aload_n 0, 1) := dk_42 (dk_at dksX0_nearest_1 23 rfl rfl)
theorem dX0_nearest_48 : decode cX0_nearest 48 = .ok (.getfield 12, 3) := dk_180 0 12 (dk_at dksX0_nearest_2 0 rfl rfl)
theorem dX0_nearest_51 : decode cX0_nearest 51 = .ok (.getfield 97, 3) := dk_180 0 97 (dk_at dksX0_nearest_2 3 rfl rfl)
theorem dX0_nearest_54 : decode cX0_nearest 54 = .ok (.invokevirtual 68, 3) := dk_182 0 68 (dk_at dksX0_nearest_2 6 rfl rfl)
theorem dX0_nearest_57 : decode cX0_nearest 57 = .ok (.if_icmp .ge 56, 3) := dk_162 0 56 (dk_at dksX0_nearest_2 9 rfl rfl)
theorem dX0_nearest_60 : decode cX0_nearest 60 = .ok (.aload_n 0, 1) := dk_42 (dk_at dksX0_nearest_2 12 rfl rfl)
theorem dX0_nearest_61 : decode cX0_nearest 61 = .ok (.aload_n 0, 1) := dk_42 (dk_at dksX0_nearest_2 13 rfl rfl)
theorem dX0_nearest_62 : decode cX0_nearest 62 = .ok (.getfield 12, 3) := dk_180 0 12 (dk_at dksX0_nearest_2 14 rfl rfl)
theorem dX0_nearest_65 : decode cX0_nearest 65 = .ok (.getfield 97, 3) := dk_180 0 97 (dk_at dksX0_nearest_2 17 rfl rfl)
theorem dX0_nearest_68 : decode cX0_nearest 68 = .ok (.iload 5, 2) := dk_21 5 (dk_at dksX0_nearest_2 20 rfl rfl)
theorem dX0_nearest_70 : decode cX0_nearest 70 = .ok (.invokevirtual 104, 3) := dk_182 0 104 (dk_at dksX0_nearest_3 0 rfl rfl)
theorem dX0_nearest_73 : decode cX0_nearest 73 = .ok (.checkcast 112, 3) := dk_192 0 112 (dk_at dksX0_nearest_3 3 rfl rfl)
theorem dX0_nearest_76 : decode cX0_nearest 76 = .ok (.iload_n 2, 1) := dk_28 (dk_at dksX0_nearest_3 6 rfl rfl)
theorem dX0_nearest_77 : decode cX0_nearest 77 = .ok (.invokevirtual 356, 3) := dk_182 1 100 (dk_at dksX0_nearest_3 7 rfl rfl)
theorem dX0_nearest_80 : decode cX0_nearest 80 = .ok (.aload_n 0, 1) := dk_42 (dk_at dksX0_nearest_3 10 rfl rfl)
theorem dX0_nearest_81 : decode cX0_nearest 81 = .ok (.aload_n 0, 1) := dk_42 (dk_at dksX0_nearest_3 11 rfl rfl)
theorem dX0_nearest_82 : decode cX0_nearest 82 = .ok (.getfield 12, 3) := dk_180 0 12 (dk_at dksX0_nearest_3 12 rfl rfl)
theorem dX0_nearest_85 : decode cX0_nearest 85 = .ok (.getfield 97, 3) := dk_180 0 97 (dk_at dksX0_nearest_3 15 rfl rfl)
theorem dX0_nearest_88 : decode cX0_nearest 88 = .ok (.iload 4, 2) := dk_21 4 (dk_at dksX0_nearest_3 18 rfl rfl)
theorem dX0_nearest_90 : decode cX0_nearest 90 = .ok (.invokevirtual 104, 3) := dk_182 0 104 (dk_at dksX0_nearest_3 20 rfl rfl)
theorem dX0_nearest_93 : decode cX0_nearest 93 = .ok (.checkcast 112, 3) := dk_192 0 112 (dk_at dksX0_nearest_4 0 rfl rfl)
theorem dX0_nearest_96 : decode cX0_nearest 96 = .ok (.iload_n 2, 1) := dk_28 (dk_at dksX0_nearest_4 3 rfl rfl)
theorem dX0_nearest_97 : decode cX0_nearest 97 = .ok (.invokevirtual 356, 3) := dk_182 1 100 (dk_at dksX0_nearest_4 4 rfl rfl)
theorem dX0_nearest_100 : decode cX0_nearest 100 = .ok (.if_icmp .ge 7, 3) := dk_162 0 7 (dk_at dksX0_nearest_4 7 rfl rfl)
theorem dX0_nearest_103 : decode cX0_nearest 103 = .ok (.iload 5, 2) := dk_21 5 (dk_at dksX0_nearest_4 10 rfl rfl)
theorem dX0_nearest_105 : decode cX0_nearest 105 = .ok (.istore 4, 2) := dk_54 4 (dk_at dksX0_nearest_4 12 rfl rfl)
theorem dX0_nearest_107 : decode cX0_nearest 107 = .ok (.iinc 5 1, 3) := dk_132 5 1 (dk_at dksX0_nearest_4 14 rfl rfl)
theorem dX0_nearest_110 : decode cX0_nearest 110 = .ok (.goto (-65), 3) := dk_167 255 191 (dk_at dksX0_nearest_4 17 rfl rfl)
theorem dX0_nearest_113 : decode cX0_nearest 113 = .ok (.aload_n 0, 1) := dk_42 (dk_at dksX0_nearest_4 20 rfl rfl)
theorem dX0_nearest_114 : decode cX0_nearest 114 = .ok (.aload_n 0, 1) := dk_42 (dk_at dksX0_nearest_4 21 rfl rfl)
theorem dX0_nearest_115 : decode cX0_nearest 115 = .ok (.getfield 12, 3) := dk_180 0 12 (dk_at dksX0_nearest_5 0 rfl rfl)
theorem dX0_nearest_118 : decode cX0_nearest 118 = .ok (.getfield 97, 3) := dk_180 0 97 (dk_at dksX0_nearest_5 3 rfl rfl)
theorem dX0_nearest_121 : decode cX0_nearest 121 = .ok (.iload 4, 2) := dk_21 4 (dk_at dksX0_nearest_5 6 rfl rfl)
theorem dX0_nearest_123 : decode cX0_nearest 123 = .ok (.invokevirtual 104, 3) := dk_182 0 104 (dk_at dksX0_nearest_5 8 rfl rfl)
theorem dX0_nearest_126 : decode cX0_nearest 126 = .ok (.checkcast 112, 3) := dk_192 0 112 (dk_at dksX0_nearest_5 11 rfl rfl)
theorem dX0_nearest_129 : decode cX0_nearest 129 = .ok (.iload_n 2, 1) := dk_28 (dk_at dksX0_nearest_5 14 rfl rfl)
theorem dX0_nearest_130 : decode cX0_nearest 130 = .ok (.invokevirtual 356, 3) := dk_182 1 100 (dk_at dksX0_nearest_5 15 rfl rfl)
theorem dX0_nearest_133 : decode cX0_nearest 133 = .ok (.istore 5, 2) := dk_54 5 (dk_at dksX0_nearest_5 18 rfl rfl)
theorem dX0_nearest_135 : decode cX0_nearest 135 = .ok (.aload_n 0, 1) := dk_42 (dk_at dksX0_nearest_5 20 rfl rfl)
theorem dX0_nearest_136 : decode cX0_nearest 136 = .ok (.getfield 12, 3) := dk_180 0 12 (dk_at dksX0_nearest_5 21 rfl rfl)
theorem dX0_nearest_139 : decode cX0_nearest 139 = .ok (.aload_n 3, 1) := dk_45 (dk_at dksX0_nearest_6 0 rfl rfl)
theorem dX0_nearest_140 : decode cX0_nearest 140 = .ok (.invokevirtual 84, 3) := dk_182 0 84 (dk_at dksX0_nearest_6 1 rfl rfl)
theorem dX0_nearest_143 : decode cX0_nearest 143 = .ok (.iload_n 1, 1) := dk_27 (dk_at dksX0_nearest_6 4 rfl rfl)
theorem dX0_nearest_144 : decode cX0_nearest 144 = .ok (.ifCond .ne 8, 3) := dk_154 0 8 (dk_at dksX0_nearest_6 5 rfl rfl)
theorem dX0_nearest_147 : decode cX0_nearest 147 = .ok (.iload 4, 2) := dk_21 4 (dk_at dksX0_nearest_6 8 rfl rfl)
theorem dX0_nearest_149 : decode cX0_nearest 149 = .ok (.goto 5, 3) := dk_167 0 5 (dk_at dksX0_nearest_6 10 rfl rfl)
theorem dX0_nearest_152 : decode cX0_nearest 152 = .ok (.iload 5, 2) := dk_21 5 (dk_at dksX0_nearest_6 13 rfl rfl)
theorem dX0_nearest_154 : decode cX0_nearest 154 = .ok (.ireturn, 1) := dk_172 (dk_at dksX0_nearest_6 15 rfl rfl)
abbrev cX0_chance : ByteArray := prog_1_method_58_code
def yX0_chance : MethodName := ⟨RX0, "chance", "(I)J"⟩
def dkwX0_chance_3 : List UInt8 := [20, 1, 111, 65, 132, 4, 1, 167, 255, 185, 32, 173]
abbrev dktX0_chance_3 : List UInt8 := dkwX0_chance_3 ++ []
def dkwX0_chance_2 : List UInt8 := [182, 0, 104, 192, 1, 74, 180, 1, 89, 184, 1, 56, 133, 105, 65, 32, 20, 1, 111, 148, 158, 0, 7]
abbrev dktX0_chance_2 : List UInt8 := dkwX0_chance_2 ++ dktX0_chance_3
def dkwX0_chance_1 : List UInt8 := [182, 0, 104, 192, 1, 74, 27, 182, 1, 104, 154, 0, 6, 167, 0, 37, 32, 42, 180, 0, 44, 21, 4]
abbrev dktX0_chance_1 : List UInt8 := dkwX0_chance_1 ++ dktX0_chance_2
def dkwX0_chance_0 : List UInt8 := [10, 65, 3, 54, 4, 21, 4, 42, 180, 0, 44, 182, 0, 68, 162, 0, 65, 42, 180, 0, 44, 21, 4]
abbrev dktX0_chance_0 : List UInt8 := dkwX0_chance_0 ++ dktX0_chance_1
theorem dksX0_chance_0 : cX0_chance.data.toList.drop 0 = dktX0_chance_0 := by decide +kernel
theorem dksX0_chance_1 : cX0_chance.data.toList.drop 23 = dktX0_chance_1 := dk_seg dksX0_chance_0 23 rfl rfl
theorem dksX0_chance_2 : cX0_chance.data.toList.drop 46 = dktX0_chance_2 := dk_seg dksX0_chance_1 23 rfl rfl
theorem dksX0_chance_3 : cX0_chance.data.toList.drop 69 = dktX0_chance_3 := dk_seg dksX0_chance_2 23 rfl rfl
theorem dX0_chance_0 : decode cX0_chance 0 = .ok (.lconst 1, 1) := dk_10 (dk_at dksX0_chance_0 0 rfl rfl)
theorem dX0_chance_1 : decode cX0_chance 1 = .ok (.lstore_n 2, 1) := dk_65 (dk_at dksX0_chance_0 1 rfl rfl)
theorem dX0_chance_2 : decode cX0_chance 2 = .ok (.iconst 0, 1) := dk_3 (dk_at dksX0_chance_0 2 rfl rfl)
theorem dX0_chance_3 : decode cX0_chance 3 = .ok (.istore 4, 2) := dk_54 4 (dk_at dksX0_chance_0 3 rfl rfl)
theorem dX0_chance_5 : decode cX0_chance 5 = .ok (.iload 4, 2) := dk_21 4 (dk_at dksX0_chance_0 5 rfl rfl)
theorem dX0_chance_7 : decode cX0_chance 7 = .ok (.aload_n 0, 1) := dk_42 (dk_at dksX0_chance_0 7 rfl rfl)
theorem dX0_chance_8 : decode cX0_chance 8 = .ok (.getfield 44, 3) := dk_180 0 44 (dk_at dksX0_chance_0 8 rfl rfl)
theorem dX0_chance_11 : decode cX0_chance 11 = .ok (.invokevirtual 68, 3) := dk_182 0 68 (dk_at dksX0_chance_0 11 rfl rfl)
theorem dX0_chance_14 : decode cX0_chance 14 = .ok (.if_icmp .ge 65, 3) := dk_162 0 65 (dk_at dksX0_chance_0 14 rfl rfl)
theorem dX0_chance_17 : decode cX0_chance 17 = .ok (.aload_n 0, 1) := dk_42 (dk_at dksX0_chance_0 17 rfl rfl)
theorem dX0_chance_18 : decode cX0_chance 18 = .ok (.getfield 44, 3) := dk_180 0 44 (dk_at dksX0_chance_0 18 rfl rfl)
theorem dX0_chance_21 : decode cX0_chance 21 = .ok (.iload 4, 2) := dk_21 4 (dk_at dksX0_chance_0 21 rfl rfl)
theorem dX0_chance_23 : decode cX0_chance 23 = .ok (.invokevirtual 104, 3) := dk_182 0 104 (dk_at dksX0_chance_1 0 rfl rfl)
theorem dX0_chance_26 : decode cX0_chance 26 = .ok (.checkcast 330, 3) := dk_192 1 74 (dk_at dksX0_chance_1 3 rfl rfl)
theorem dX0_chance_29 : decode cX0_chance 29 = .ok (.iload_n 1, 1) := dk_27 (dk_at dksX0_chance_1 6 rfl rfl)
theorem dX0_chance_30 : decode cX0_chance 30 = .ok (.invokevirtual 360, 3) := dk_182 1 104 (dk_at dksX0_chance_1 7 rfl rfl)
theorem dX0_chance_33 : decode cX0_chance 33 = .ok (.ifCond .ne 6, 3) := dk_154 0 6 (dk_at dksX0_chance_1 10 rfl rfl)
theorem dX0_chance_36 : decode cX0_chance 36 = .ok (.goto 37, 3) := dk_167 0 37 (dk_at dksX0_chance_1 13 rfl rfl)
theorem dX0_chance_39 : decode cX0_chance 39 = .ok (.lload_n 2, 1) := dk_32 (dk_at dksX0_chance_1 16 rfl rfl)
theorem dX0_chance_40 : decode cX0_chance 40 = .ok (.aload_n 0, 1) := dk_42 (dk_at dksX0_chance_1 17 rfl rfl)
theorem dX0_chance_41 : decode cX0_chance 41 = .ok (.getfield 44, 3) := dk_180 0 44 (dk_at dksX0_chance_1 18 rfl rfl)
theorem dX0_chance_44 : decode cX0_chance 44 = .ok (.iload 4, 2) := dk_21 4 (dk_at dksX0_chance_1 21 rfl rfl)
theorem dX0_chance_46 : decode cX0_chance 46 = .ok (.invokevirtual 104, 3) := dk_182 0 104 (dk_at dksX0_chance_2 0 rfl rfl)
theorem dX0_chance_49 : decode cX0_chance 49 = .ok (.checkcast 330, 3) := dk_192 1 74 (dk_at dksX0_chance_2 3 rfl rfl)
theorem dX0_chance_52 : decode cX0_chance 52 = .ok (.getfield 345, 3) := dk_180 1 89 (dk_at dksX0_chance_2 6 rfl rfl)
theorem dX0_chance_55 : decode cX0_chance 55 = .ok (.invokestatic 312, 3) := dk_184 1 56 (dk_at dksX0_chance_2 9 rfl rfl)
theorem dX0_chance_58 : decode cX0_chance 58 = .ok (.i2l, 1) := dk_133 (dk_at dksX0_chance_2 12 rfl rfl)
theorem dX0_chance_59 : decode cX0_chance 59 = .ok (.lmul, 1) := dk_105 (dk_at dksX0_chance_2 13 rfl rfl)
theorem dX0_chance_60 : decode cX0_chance 60 = .ok (.lstore_n 2, 1) := dk_65 (dk_at dksX0_chance_2 14 rfl rfl)
theorem dX0_chance_61 : decode cX0_chance 61 = .ok (.lload_n 2, 1) := dk_32 (dk_at dksX0_chance_2 15 rfl rfl)
theorem dX0_chance_62 : decode cX0_chance 62 = .ok (.ldc2_w 367, 3) := dk_20 1 111 (dk_at dksX0_chance_2 16 rfl rfl)
theorem dX0_chance_65 : decode cX0_chance 65 = .ok (.lcmp, 1) := dk_148 (dk_at dksX0_chance_2 19 rfl rfl)
theorem dX0_chance_66 : decode cX0_chance 66 = .ok (.ifCond .le 7, 3) := dk_158 0 7 (dk_at dksX0_chance_2 20 rfl rfl)
theorem dX0_chance_69 : decode cX0_chance 69 = .ok (.ldc2_w 367, 3) := dk_20 1 111 (dk_at dksX0_chance_3 0 rfl rfl)
theorem dX0_chance_72 : decode cX0_chance 72 = .ok (.lstore_n 2, 1) := dk_65 (dk_at dksX0_chance_3 3 rfl rfl)
theorem dX0_chance_73 : decode cX0_chance 73 = .ok (.iinc 4 1, 3) := dk_132 4 1 (dk_at dksX0_chance_3 4 rfl rfl)
theorem dX0_chance_76 : decode cX0_chance 76 = .ok (.goto (-71), 3) := dk_167 255 185 (dk_at dksX0_chance_3 7 rfl rfl)
theorem dX0_chance_79 : decode cX0_chance 79 = .ok (.lload_n 2, 1) := dk_32 (dk_at dksX0_chance_3 10 rfl rfl)
theorem dX0_chance_80 : decode cX0_chance 80 = .ok (.lreturn, 1) := dk_173 (dk_at dksX0_chance_3 11 rfl rfl)
abbrev cX0_image : ByteArray := prog_1_method_59_code
def yX0_image : MethodName := ⟨RX0, "image", "(I)I"⟩
def dkwX0_image_1 : List UInt8 := [181, 0, 65, 42, 180, 0, 12, 182, 1, 47, 172]
abbrev dktX0_image_1 : List UInt8 := dkwX0_image_1 ++ []
def dkwX0_image_0 : List UInt8 := [27, 3, 5, 184, 0, 90, 154, 0, 5, 2, 172, 42, 180, 0, 52, 27, 50, 42, 180, 0, 12, 182, 0, 76]
abbrev dktX0_image_0 : List UInt8 := dkwX0_image_0 ++ dktX0_image_1
theorem dksX0_image_0 : cX0_image.data.toList.drop 0 = dktX0_image_0 := by decide +kernel
theorem dksX0_image_1 : cX0_image.data.toList.drop 24 = dktX0_image_1 := dk_seg dksX0_image_0 24 rfl rfl
theorem dX0_image_0 : decode cX0_image 0 = .ok (.iload_n 1, 1) := dk_27 (dk_at dksX0_image_0 0 rfl rfl)
theorem dX0_image_1 : decode cX0_image 1 = .ok (.iconst 0, 1) := dk_3 (dk_at dksX0_image_0 1 rfl rfl)
theorem dX0_image_2 : decode cX0_image 2 = .ok (.iconst 2, 1) := dk_5 (dk_at dksX0_image_0 2 rfl rfl)
theorem dX0_image_3 : decode cX0_image 3 = .ok (.invokestatic 90, 3) := dk_184 0 90 (dk_at dksX0_image_0 3 rfl rfl)
theorem dX0_image_6 : decode cX0_image 6 = .ok (.ifCond .ne 5, 3) := dk_154 0 5 (dk_at dksX0_image_0 6 rfl rfl)
theorem dX0_image_9 : decode cX0_image 9 = .ok (.iconst (-1), 1) := dk_2 (dk_at dksX0_image_0 9 rfl rfl)
theorem dX0_image_10 : decode cX0_image 10 = .ok (.ireturn, 1) := dk_172 (dk_at dksX0_image_0 10 rfl rfl)
theorem dX0_image_11 : decode cX0_image 11 = .ok (.aload_n 0, 1) := dk_42 (dk_at dksX0_image_0 11 rfl rfl)
theorem dX0_image_12 : decode cX0_image 12 = .ok (.getfield 52, 3) := dk_180 0 52 (dk_at dksX0_image_0 12 rfl rfl)
theorem dX0_image_15 : decode cX0_image 15 = .ok (.iload_n 1, 1) := dk_27 (dk_at dksX0_image_0 15 rfl rfl)
theorem dX0_image_16 : decode cX0_image 16 = .ok (.aaload, 1) := dk_50 (dk_at dksX0_image_0 16 rfl rfl)
theorem dX0_image_17 : decode cX0_image 17 = .ok (.aload_n 0, 1) := dk_42 (dk_at dksX0_image_0 17 rfl rfl)
theorem dX0_image_18 : decode cX0_image 18 = .ok (.getfield 12, 3) := dk_180 0 12 (dk_at dksX0_image_0 18 rfl rfl)
theorem dX0_image_21 : decode cX0_image 21 = .ok (.invokevirtual 76, 3) := dk_182 0 76 (dk_at dksX0_image_0 21 rfl rfl)
theorem dX0_image_24 : decode cX0_image 24 = .ok (.putfield 65, 3) := dk_181 0 65 (dk_at dksX0_image_1 0 rfl rfl)
theorem dX0_image_27 : decode cX0_image 27 = .ok (.aload_n 0, 1) := dk_42 (dk_at dksX0_image_1 3 rfl rfl)
theorem dX0_image_28 : decode cX0_image 28 = .ok (.getfield 12, 3) := dk_180 0 12 (dk_at dksX0_image_1 4 rfl rfl)
theorem dX0_image_31 : decode cX0_image 31 = .ok (.invokevirtual 303, 3) := dk_182 1 47 (dk_at dksX0_image_1 7 rfl rfl)
theorem dX0_image_34 : decode cX0_image 34 = .ok (.ireturn, 1) := dk_172 (dk_at dksX0_image_1 10 rfl rfl)
abbrev cX0_back : ByteArray := prog_1_method_60_code
def yX0_back : MethodName := ⟨RX0, "back", "(I)I"⟩
def dkwX0_back_2 : List UInt8 := [180, 0, 31, 182, 0, 59, 42, 180, 0, 12, 182, 1, 47, 172]
abbrev dktX0_back_2 : List UInt8 := dkwX0_back_2 ++ []
def dkwX0_back_1 : List UInt8 := [180, 0, 12, 42, 180, 0, 52, 27, 50, 180, 0, 65, 182, 0, 84, 42, 180, 0, 27, 182, 0, 59, 42]
abbrev dktX0_back_1 : List UInt8 := dkwX0_back_1 ++ dktX0_back_2
def dkwX0_back_0 : List UInt8 := [27, 3, 5, 184, 0, 90, 153, 0, 15, 42, 180, 0, 52, 27, 50, 180, 0, 65, 199, 0, 5, 2, 172, 42]
abbrev dktX0_back_0 : List UInt8 := dkwX0_back_0 ++ dktX0_back_1
theorem dksX0_back_0 : cX0_back.data.toList.drop 0 = dktX0_back_0 := by decide +kernel
theorem dksX0_back_1 : cX0_back.data.toList.drop 24 = dktX0_back_1 := dk_seg dksX0_back_0 24 rfl rfl
theorem dksX0_back_2 : cX0_back.data.toList.drop 47 = dktX0_back_2 := dk_seg dksX0_back_1 23 rfl rfl
theorem dX0_back_0 : decode cX0_back 0 = .ok (.iload_n 1, 1) := dk_27 (dk_at dksX0_back_0 0 rfl rfl)
theorem dX0_back_1 : decode cX0_back 1 = .ok (.iconst 0, 1) := dk_3 (dk_at dksX0_back_0 1 rfl rfl)
theorem dX0_back_2 : decode cX0_back 2 = .ok (.iconst 2, 1) := dk_5 (dk_at dksX0_back_0 2 rfl rfl)
theorem dX0_back_3 : decode cX0_back 3 = .ok (.invokestatic 90, 3) := dk_184 0 90 (dk_at dksX0_back_0 3 rfl rfl)
theorem dX0_back_6 : decode cX0_back 6 = .ok (.ifCond .eq 15, 3) := dk_153 0 15 (dk_at dksX0_back_0 6 rfl rfl)
theorem dX0_back_9 : decode cX0_back 9 = .ok (.aload_n 0, 1) := dk_42 (dk_at dksX0_back_0 9 rfl rfl)
theorem dX0_back_10 : decode cX0_back 10 = .ok (.getfield 52, 3) := dk_180 0 52 (dk_at dksX0_back_0 10 rfl rfl)
theorem dX0_back_13 : decode cX0_back 13 = .ok (.iload_n 1, 1) := dk_27 (dk_at dksX0_back_0 13 rfl rfl)
theorem dX0_back_14 : decode cX0_back 14 = .ok (.aaload, 1) := dk_50 (dk_at dksX0_back_0 14 rfl rfl)
theorem dX0_back_15 : decode cX0_back 15 = .ok (.getfield 65, 3) := dk_180 0 65 (dk_at dksX0_back_0 15 rfl rfl)
theorem dX0_back_18 : decode cX0_back 18 = .ok (.ifnonnull 5, 3) := dk_199 0 5 (dk_at dksX0_back_0 18 rfl rfl)
theorem dX0_back_21 : decode cX0_back 21 = .ok (.iconst (-1), 1) := dk_2 (dk_at dksX0_back_0 21 rfl rfl)
theorem dX0_back_22 : decode cX0_back 22 = .ok (.ireturn, 1) := dk_172 (dk_at dksX0_back_0 22 rfl rfl)
theorem dX0_back_23 : decode cX0_back 23 = .ok (.aload_n 0, 1) := dk_42 (dk_at dksX0_back_0 23 rfl rfl)
theorem dX0_back_24 : decode cX0_back 24 = .ok (.getfield 12, 3) := dk_180 0 12 (dk_at dksX0_back_1 0 rfl rfl)
theorem dX0_back_27 : decode cX0_back 27 = .ok (.aload_n 0, 1) := dk_42 (dk_at dksX0_back_1 3 rfl rfl)
theorem dX0_back_28 : decode cX0_back 28 = .ok (.getfield 52, 3) := dk_180 0 52 (dk_at dksX0_back_1 4 rfl rfl)
theorem dX0_back_31 : decode cX0_back 31 = .ok (.iload_n 1, 1) := dk_27 (dk_at dksX0_back_1 7 rfl rfl)
theorem dX0_back_32 : decode cX0_back 32 = .ok (.aaload, 1) := dk_50 (dk_at dksX0_back_1 8 rfl rfl)
theorem dX0_back_33 : decode cX0_back 33 = .ok (.getfield 65, 3) := dk_180 0 65 (dk_at dksX0_back_1 9 rfl rfl)
theorem dX0_back_36 : decode cX0_back 36 = .ok (.invokevirtual 84, 3) := dk_182 0 84 (dk_at dksX0_back_1 12 rfl rfl)
theorem dX0_back_39 : decode cX0_back 39 = .ok (.aload_n 0, 1) := dk_42 (dk_at dksX0_back_1 15 rfl rfl)
theorem dX0_back_40 : decode cX0_back 40 = .ok (.getfield 27, 3) := dk_180 0 27 (dk_at dksX0_back_1 16 rfl rfl)
theorem dX0_back_43 : decode cX0_back 43 = .ok (.invokevirtual 59, 3) := dk_182 0 59 (dk_at dksX0_back_1 19 rfl rfl)
theorem dX0_back_46 : decode cX0_back 46 = .ok (.aload_n 0, 1) := dk_42 (dk_at dksX0_back_1 22 rfl rfl)
theorem dX0_back_47 : decode cX0_back 47 = .ok (.getfield 31, 3) := dk_180 0 31 (dk_at dksX0_back_2 0 rfl rfl)
theorem dX0_back_50 : decode cX0_back 50 = .ok (.invokevirtual 59, 3) := dk_182 0 59 (dk_at dksX0_back_2 3 rfl rfl)
theorem dX0_back_53 : decode cX0_back 53 = .ok (.aload_n 0, 1) := dk_42 (dk_at dksX0_back_2 6 rfl rfl)
theorem dX0_back_54 : decode cX0_back 54 = .ok (.getfield 12, 3) := dk_180 0 12 (dk_at dksX0_back_2 7 rfl rfl)
theorem dX0_back_57 : decode cX0_back 57 = .ok (.invokevirtual 303, 3) := dk_182 1 47 (dk_at dksX0_back_2 10 rfl rfl)
theorem dX0_back_60 : decode cX0_back 60 = .ok (.ireturn, 1) := dk_172 (dk_at dksX0_back_2 13 rfl rfl)
abbrev cX0_about : ByteArray := prog_1_method_61_code
def yX0_about : MethodName := ⟨RX0, "about", "(I)I"⟩
def dkwX0_about_6 : List UInt8 := [172, 42, 180, 0, 114, 172, 42, 180, 0, 12, 180, 1, 116, 172, 42, 180, 0, 62, 172, 2, 172]
abbrev dktX0_about_6 : List UInt8 := dkwX0_about_6 ++ []
def dkwX0_about_5 : List UInt8 := [182, 0, 68, 172, 42, 180, 0, 31, 182, 0, 68, 172, 42, 180, 0, 44, 182, 0, 68, 172, 42, 180, 1, 76]
abbrev dktX0_about_5 : List UInt8 := dkwX0_about_5 ++ dktX0_about_6
def dkwX0_about_4 : List UInt8 := [180, 0, 12, 180, 0, 97, 182, 0, 68, 172, 42, 180, 0, 12, 180, 1, 113, 172, 42, 180, 0, 27]
abbrev dktX0_about_4 : List UInt8 := dkwX0_about_4 ++ dktX0_about_5
def dkwX0_about_3 : List UInt8 := [182, 0, 68, 172, 42, 180, 0, 12, 182, 1, 47, 172, 42, 180, 0, 12, 180, 0, 94, 182, 0, 68, 172, 42]
abbrev dktX0_about_3 : List UInt8 := dkwX0_about_3 ++ dktX0_about_4
def dkwX0_about_2 : List UInt8 := [42, 180, 0, 12, 180, 1, 20, 172, 42, 180, 0, 12, 180, 1, 23, 172, 42, 180, 0, 12, 180, 0, 87]
abbrev dktX0_about_2 : List UInt8 := dkwX0_about_2 ++ dktX0_about_3
def dkwX0_about_1 : List UInt8 := [170, 0, 0, 0, 0, 0, 183, 0, 0, 0, 0, 0, 0, 0, 13, 0, 0, 0, 71, 0, 0, 0, 79, 0, 0, 0, 87, 0, 0, 0, 98, 0, 0, 0, 106, 0, 0, 0, 117, 0, 0, 0, 128, 0, 0, 0, 136, 0, 0, 0, 144, 0, 0, 0, 152, 0, 0, 0, 160, 0, 0, 0, 165, 0, 0, 0, 170, 0, 0, 0, 178]
abbrev dktX0_about_1 : List UInt8 := dkwX0_about_1 ++ dktX0_about_2
def dkwX0_about_0 : List UInt8 := [27]
abbrev dktX0_about_0 : List UInt8 := dkwX0_about_0 ++ dktX0_about_1
theorem dksX0_about_0 : cX0_about.data.toList.drop 0 = dktX0_about_0 := by decide +kernel
theorem dksX0_about_1 : cX0_about.data.toList.drop 1 = dktX0_about_1 := dk_seg dksX0_about_0 1 rfl rfl
theorem dksX0_about_2 : cX0_about.data.toList.drop 72 = dktX0_about_2 := dk_seg dksX0_about_1 71 rfl rfl
theorem dksX0_about_3 : cX0_about.data.toList.drop 95 = dktX0_about_3 := dk_seg dksX0_about_2 23 rfl rfl
theorem dksX0_about_4 : cX0_about.data.toList.drop 119 = dktX0_about_4 := dk_seg dksX0_about_3 24 rfl rfl
theorem dksX0_about_5 : cX0_about.data.toList.drop 141 = dktX0_about_5 := dk_seg dksX0_about_4 22 rfl rfl
theorem dksX0_about_6 : cX0_about.data.toList.drop 165 = dktX0_about_6 := dk_seg dksX0_about_5 24 rfl rfl
theorem dX0_about_0 : decode cX0_about 0 = .ok (.iload_n 1, 1) := dk_27 (dk_at dksX0_about_0 0 rfl rfl)
theorem dX0_about_1 : decode cX0_about 1 = .ok (.tableswitch 183 0 13 #[71, 79, 87, 98, 106, 117, 128, 136, 144, 152, 160, 165, 170, 178], 71) := by decide +kernel
theorem dX0_about_72 : decode cX0_about 72 = .ok (.aload_n 0, 1) := dk_42 (dk_at dksX0_about_2 0 rfl rfl)
theorem dX0_about_73 : decode cX0_about 73 = .ok (.getfield 12, 3) := dk_180 0 12 (dk_at dksX0_about_2 1 rfl rfl)
theorem dX0_about_76 : decode cX0_about 76 = .ok (.getfield 276, 3) := dk_180 1 20 (dk_at dksX0_about_2 4 rfl rfl)
theorem dX0_about_79 : decode cX0_about 79 = .ok (.ireturn, 1) := dk_172 (dk_at dksX0_about_2 7 rfl rfl)
theorem dX0_about_80 : decode cX0_about 80 = .ok (.aload_n 0, 1) := dk_42 (dk_at dksX0_about_2 8 rfl rfl)
theorem dX0_about_81 : decode cX0_about 81 = .ok (.getfield 12, 3) := dk_180 0 12 (dk_at dksX0_about_2 9 rfl rfl)
theorem dX0_about_84 : decode cX0_about 84 = .ok (.getfield 279, 3) := dk_180 1 23 (dk_at dksX0_about_2 12 rfl rfl)
theorem dX0_about_87 : decode cX0_about 87 = .ok (.ireturn, 1) := dk_172 (dk_at dksX0_about_2 15 rfl rfl)
theorem dX0_about_88 : decode cX0_about 88 = .ok (.aload_n 0, 1) := dk_42 (dk_at dksX0_about_2 16 rfl rfl)
theorem dX0_about_89 : decode cX0_about 89 = .ok (.getfield 12, 3) := dk_180 0 12 (dk_at dksX0_about_2 17 rfl rfl)
theorem dX0_about_92 : decode cX0_about 92 = .ok (.getfield 87, 3) := dk_180 0 87 (dk_at dksX0_about_2 20 rfl rfl)
theorem dX0_about_95 : decode cX0_about 95 = .ok (.invokevirtual 68, 3) := dk_182 0 68 (dk_at dksX0_about_3 0 rfl rfl)
theorem dX0_about_98 : decode cX0_about 98 = .ok (.ireturn, 1) := dk_172 (dk_at dksX0_about_3 3 rfl rfl)
theorem dX0_about_99 : decode cX0_about 99 = .ok (.aload_n 0, 1) := dk_42 (dk_at dksX0_about_3 4 rfl rfl)
theorem dX0_about_100 : decode cX0_about 100 = .ok (.getfield 12, 3) := dk_180 0 12 (dk_at dksX0_about_3 5 rfl rfl)
theorem dX0_about_103 : decode cX0_about 103 = .ok (.invokevirtual 303, 3) := dk_182 1 47 (dk_at dksX0_about_3 8 rfl rfl)
theorem dX0_about_106 : decode cX0_about 106 = .ok (.ireturn, 1) := dk_172 (dk_at dksX0_about_3 11 rfl rfl)
theorem dX0_about_107 : decode cX0_about 107 = .ok (.aload_n 0, 1) := dk_42 (dk_at dksX0_about_3 12 rfl rfl)
theorem dX0_about_108 : decode cX0_about 108 = .ok (.getfield 12, 3) := dk_180 0 12 (dk_at dksX0_about_3 13 rfl rfl)
theorem dX0_about_111 : decode cX0_about 111 = .ok (.getfield 94, 3) := dk_180 0 94 (dk_at dksX0_about_3 16 rfl rfl)
theorem dX0_about_114 : decode cX0_about 114 = .ok (.invokevirtual 68, 3) := dk_182 0 68 (dk_at dksX0_about_3 19 rfl rfl)
theorem dX0_about_117 : decode cX0_about 117 = .ok (.ireturn, 1) := dk_172 (dk_at dksX0_about_3 22 rfl rfl)
theorem dX0_about_118 : decode cX0_about 118 = .ok (.aload_n 0, 1) := dk_42 (dk_at dksX0_about_3 23 rfl rfl)
theorem dX0_about_119 : decode cX0_about 119 = .ok (.getfield 12, 3) := dk_180 0 12 (dk_at dksX0_about_4 0 rfl rfl)
theorem dX0_about_122 : decode cX0_about 122 = .ok (.getfield 97, 3) := dk_180 0 97 (dk_at dksX0_about_4 3 rfl rfl)
theorem dX0_about_125 : decode cX0_about 125 = .ok (.invokevirtual 68, 3) := dk_182 0 68 (dk_at dksX0_about_4 6 rfl rfl)
theorem dX0_about_128 : decode cX0_about 128 = .ok (.ireturn, 1) := dk_172 (dk_at dksX0_about_4 9 rfl rfl)
theorem dX0_about_129 : decode cX0_about 129 = .ok (.aload_n 0, 1) := dk_42 (dk_at dksX0_about_4 10 rfl rfl)
theorem dX0_about_130 : decode cX0_about 130 = .ok (.getfield 12, 3) := dk_180 0 12 (dk_at dksX0_about_4 11 rfl rfl)
theorem dX0_about_133 : decode cX0_about 133 = .ok (.getfield 369, 3) := dk_180 1 113 (dk_at dksX0_about_4 14 rfl rfl)
theorem dX0_about_136 : decode cX0_about 136 = .ok (.ireturn, 1) := dk_172 (dk_at dksX0_about_4 17 rfl rfl)
theorem dX0_about_137 : decode cX0_about 137 = .ok (.aload_n 0, 1) := dk_42 (dk_at dksX0_about_4 18 rfl rfl)
theorem dX0_about_138 : decode cX0_about 138 = .ok (.getfield 27, 3) := dk_180 0 27 (dk_at dksX0_about_4 19 rfl rfl)
theorem dX0_about_141 : decode cX0_about 141 = .ok (.invokevirtual 68, 3) := dk_182 0 68 (dk_at dksX0_about_5 0 rfl rfl)
theorem dX0_about_144 : decode cX0_about 144 = .ok (.ireturn, 1) := dk_172 (dk_at dksX0_about_5 3 rfl rfl)
theorem dX0_about_145 : decode cX0_about 145 = .ok (.aload_n 0, 1) := dk_42 (dk_at dksX0_about_5 4 rfl rfl)
theorem dX0_about_146 : decode cX0_about 146 = .ok (.getfield 31, 3) := dk_180 0 31 (dk_at dksX0_about_5 5 rfl rfl)
theorem dX0_about_149 : decode cX0_about 149 = .ok (.invokevirtual 68, 3) := dk_182 0 68 (dk_at dksX0_about_5 8 rfl rfl)
theorem dX0_about_152 : decode cX0_about 152 = .ok (.ireturn, 1) := dk_172 (dk_at dksX0_about_5 11 rfl rfl)
theorem dX0_about_153 : decode cX0_about 153 = .ok (.aload_n 0, 1) := dk_42 (dk_at dksX0_about_5 12 rfl rfl)
theorem dX0_about_154 : decode cX0_about 154 = .ok (.getfield 44, 3) := dk_180 0 44 (dk_at dksX0_about_5 13 rfl rfl)
theorem dX0_about_157 : decode cX0_about 157 = .ok (.invokevirtual 68, 3) := dk_182 0 68 (dk_at dksX0_about_5 16 rfl rfl)
theorem dX0_about_160 : decode cX0_about 160 = .ok (.ireturn, 1) := dk_172 (dk_at dksX0_about_5 19 rfl rfl)
theorem dX0_about_161 : decode cX0_about 161 = .ok (.aload_n 0, 1) := dk_42 (dk_at dksX0_about_5 20 rfl rfl)
theorem dX0_about_162 : decode cX0_about 162 = .ok (.getfield 332, 3) := dk_180 1 76 (dk_at dksX0_about_5 21 rfl rfl)
theorem dX0_about_165 : decode cX0_about 165 = .ok (.ireturn, 1) := dk_172 (dk_at dksX0_about_6 0 rfl rfl)
theorem dX0_about_166 : decode cX0_about 166 = .ok (.aload_n 0, 1) := dk_42 (dk_at dksX0_about_6 1 rfl rfl)
theorem dX0_about_167 : decode cX0_about 167 = .ok (.getfield 114, 3) := dk_180 0 114 (dk_at dksX0_about_6 2 rfl rfl)
theorem dX0_about_170 : decode cX0_about 170 = .ok (.ireturn, 1) := dk_172 (dk_at dksX0_about_6 5 rfl rfl)
theorem dX0_about_171 : decode cX0_about 171 = .ok (.aload_n 0, 1) := dk_42 (dk_at dksX0_about_6 6 rfl rfl)
theorem dX0_about_172 : decode cX0_about 172 = .ok (.getfield 12, 3) := dk_180 0 12 (dk_at dksX0_about_6 7 rfl rfl)
theorem dX0_about_175 : decode cX0_about 175 = .ok (.getfield 372, 3) := dk_180 1 116 (dk_at dksX0_about_6 10 rfl rfl)
theorem dX0_about_178 : decode cX0_about 178 = .ok (.ireturn, 1) := dk_172 (dk_at dksX0_about_6 13 rfl rfl)
theorem dX0_about_179 : decode cX0_about 179 = .ok (.aload_n 0, 1) := dk_42 (dk_at dksX0_about_6 14 rfl rfl)
theorem dX0_about_180 : decode cX0_about 180 = .ok (.getfield 62, 3) := dk_180 0 62 (dk_at dksX0_about_6 15 rfl rfl)
theorem dX0_about_183 : decode cX0_about 183 = .ok (.ireturn, 1) := dk_172 (dk_at dksX0_about_6 18 rfl rfl)
theorem dX0_about_184 : decode cX0_about 184 = .ok (.iconst (-1), 1) := dk_2 (dk_at dksX0_about_6 19 rfl rfl)
theorem dX0_about_185 : decode cX0_about 185 = .ok (.ireturn, 1) := dk_172 (dk_at dksX0_about_6 20 rfl rfl)
theorem q145 : (Jvm.Cond.initialized "TubBites") ∈ lw_all := lw_g (lw_at lw_m1 1 rfl) rfl
theorem q177 : (Jvm.Cond.instantiable "TubBites" (16 : Nat)) ∈ lw_all := lw_g (lw_at lw_m1 33 rfl) rfl
theorem q179 : (Jvm.Cond.instanceMethod ({ cls := "TubBites", name := "<init>", desc := "()V" } : Jvm.MethodName)) ∈ lw_all := lw_g (lw_at lw_m1 35 rfl) rfl
theorem q180 : (Jvm.Cond.code ({ cls := "TubBites", name := "<init>", desc := "()V" } : Jvm.MethodName) prog_1_method_2_code (1 : Nat) (Option.none : Option Jvm.ClassFile.FieldType)) ∈ lw_all := lw_g (lw_at lw_m1 36 rfl) rfl
theorem q181 : (Jvm.Cond.methodLink "TubBites" (3 : Nat) ({ cls := "java/lang/Object", name := "<init>", desc := "()V" } : Jvm.MethodName)) ∈ lw_all := lw_g (lw_at lw_m1 37 rfl) rfl
theorem q184 : (Jvm.Cond.classLink "TubBites" (9 : Nat) "TubBites$Water") ∈ lw_all := lw_g (lw_at lw_m1 40 rfl) rfl
theorem q186 : (Jvm.Cond.methodLinkNest "TubBites" (11 : Nat) ({ cls := "TubBites$Water", name := "<init>", desc := "()V" } : Jvm.MethodName) "TubBites") ∈ lw_tbl := lw_at lw_m1 42 rfl
theorem q233 : (Jvm.Cond.fieldLinkNest "TubBites" (276 : Nat) "TubBites$Water" "across" "I" "TubBites") ∈ lw_tbl := lw_at lw_m1 89 rfl
theorem q236 : (Jvm.Cond.fieldLinkNest "TubBites" (279 : Nat) "TubBites$Water" "up" "I" "TubBites") ∈ lw_tbl := lw_at lw_m1 92 rfl
theorem q240 : (Jvm.Cond.fieldLinkNest "TubBites" (369 : Nat) "TubBites$Water" "seed" "I" "TubBites") ∈ lw_tbl := lw_at lw_m1 96 rfl
theorem q242 : (Jvm.Cond.fieldLinkNest "TubBites" (372 : Nat) "TubBites$Water" "units" "I" "TubBites") ∈ lw_tbl := lw_at lw_m1 98 rfl
theorem q252 : (Jvm.Cond.fieldLinkNest "TubBites" (97 : Nat) "TubBites$Water" "rules" "Ljava/util/ArrayList;" "TubBites") ∈ lw_tbl := lw_at lw_m1 108 rfl
theorem q255 : (Jvm.Cond.fieldLinkNest "TubBites" (87 : Nat) "TubBites$Water" "apples" "Ljava/util/ArrayList;" "TubBites") ∈ lw_tbl := lw_at lw_m1 111 rfl
theorem q258 : (Jvm.Cond.fieldLinkNest "TubBites" (94 : Nat) "TubBites$Water" "bobbers" "Ljava/util/ArrayList;" "TubBites") ∈ lw_tbl := lw_at lw_m1 114 rfl
theorem q290 : (Jvm.Cond.classLink "TubBites" (24 : Nat) "java/util/ArrayList") ∈ lw_all := lw_g (lw_at lw_m1 146 rfl) rfl
theorem q291 : (Jvm.Cond.methodLink "TubBites" (26 : Nat) ({ cls := "java/util/ArrayList", name := "<init>", desc := "()V" } : Jvm.MethodName)) ∈ lw_all := lw_g (lw_at lw_m1 147 rfl) rfl
theorem q292 : (Jvm.Cond.classLink "TubBites" (47 : Nat) "TubBites$Kept") ∈ lw_all := lw_g (lw_at lw_m1 148 rfl) rfl
theorem q295 : (Jvm.Cond.methodLink "TubBites" (49 : Nat) ({ cls := "TubBites$Kept", name := "<init>", desc := "([I)V" } : Jvm.MethodName)) ∈ lw_all := lw_g (lw_at lw_m1 151 rfl) rfl
theorem q300 : (Jvm.Cond.fieldLinkNest "TubBites" (65 : Nat) "TubBites$Kept" "all" "[I" "TubBites") ∈ lw_tbl := lw_at lw_m1 156 rfl
theorem q305 : (Jvm.Cond.methodLink "TubBites" (56 : Nat) ({ cls := "TubBites", name := "begin", desc := "()V" } : Jvm.MethodName)) ∈ lw_all := lw_g (lw_at lw_m1 161 rfl) rfl
theorem q306 : (Jvm.Cond.privateMethod ({ cls := "TubBites", name := "begin", desc := "()V" } : Jvm.MethodName)) ∈ lw_tbl := lw_at lw_m1 162 rfl
theorem q307 : (Jvm.Cond.instanceMethod ({ cls := "TubBites", name := "begin", desc := "()V" } : Jvm.MethodName)) ∈ lw_all := lw_g (lw_at lw_m1 163 rfl) rfl
theorem q308 : (Jvm.Cond.code ({ cls := "TubBites", name := "begin", desc := "()V" } : Jvm.MethodName) prog_1_method_3_code (2 : Nat) (Option.none : Option Jvm.ClassFile.FieldType)) ∈ lw_all := lw_g (lw_at lw_m1 164 rfl) rfl
theorem q309 : (Jvm.Cond.methodLink "TubBites" (59 : Nat) ({ cls := "java/util/ArrayList", name := "clear", desc := "()V" } : Jvm.MethodName)) ∈ lw_all := lw_g (lw_at lw_m1 165 rfl) rfl
theorem q313 : (Jvm.Cond.fieldLink "TubBites" (12 : Nat) "TubBites" "w" "LTubBites$Water;") ∈ lw_all := lw_g (lw_at lw_m1 169 rfl) rfl
theorem q314 : (Jvm.Cond.fieldLink "TubBites" (16 : Nat) "TubBites" "tape" "[B") ∈ lw_all := lw_g (lw_at lw_m1 170 rfl) rfl
theorem q315 : (Jvm.Cond.fieldLink "TubBites" (114 : Nat) "TubBites" "taped" "I") ∈ lw_all := lw_g (lw_at lw_m1 171 rfl) rfl
theorem q316 : (Jvm.Cond.fieldLink "TubBites" (332 : Nat) "TubBites" "time" "I") ∈ lw_all := lw_g (lw_at lw_m1 172 rfl) rfl
theorem q317 : (Jvm.Cond.fieldLink "TubBites" (121 : Nat) "TubBites" "faultKind" "I") ∈ lw_all := lw_g (lw_at lw_m1 173 rfl) rfl
theorem q318 : (Jvm.Cond.fieldLink "TubBites" (20 : Nat) "TubBites" "faultPlace" "I") ∈ lw_all := lw_g (lw_at lw_m1 174 rfl) rfl
theorem q319 : (Jvm.Cond.fieldLink "TubBites" (27 : Nat) "TubBites" "acts" "Ljava/util/ArrayList;") ∈ lw_all := lw_g (lw_at lw_m1 175 rfl) rfl
theorem q320 : (Jvm.Cond.fieldLink "TubBites" (31 : Nat) "TubBites" "undone" "Ljava/util/ArrayList;") ∈ lw_all := lw_g (lw_at lw_m1 176 rfl) rfl
theorem q321 : (Jvm.Cond.fieldLink "TubBites" (214 : Nat) "TubBites" "looks" "I") ∈ lw_all := lw_g (lw_at lw_m1 177 rfl) rfl
theorem q322 : (Jvm.Cond.fieldLink "TubBites" (246 : Nat) "TubBites" "firstTry" "I") ∈ lw_all := lw_g (lw_at lw_m1 178 rfl) rfl
theorem q323 : (Jvm.Cond.fieldLink "TubBites" (34 : Nat) "TubBites" "levels" "[I") ∈ lw_all := lw_g (lw_at lw_m1 179 rfl) rfl
theorem q324 : (Jvm.Cond.fieldLink "TubBites" (38 : Nat) "TubBites" "laidRow" "[I") ∈ lw_all := lw_g (lw_at lw_m1 180 rfl) rfl
theorem q325 : (Jvm.Cond.fieldLink "TubBites" (62 : Nat) "TubBites" "laid" "I") ∈ lw_all := lw_g (lw_at lw_m1 181 rfl) rfl
theorem q326 : (Jvm.Cond.fieldLink "TubBites" (41 : Nat) "TubBites" "orderRow" "[I") ∈ lw_all := lw_g (lw_at lw_m1 182 rfl) rfl
theorem q327 : (Jvm.Cond.fieldLink "TubBites" (44 : Nat) "TubBites" "picks" "Ljava/util/ArrayList;") ∈ lw_all := lw_g (lw_at lw_m1 183 rfl) rfl
theorem q328 : (Jvm.Cond.fieldLink "TubBites" (52 : Nat) "TubBites" "boxes" "[LTubBites$Kept;") ∈ lw_all := lw_g (lw_at lw_m1 184 rfl) rfl
theorem q329 : (Jvm.Cond.lays "TubBites" "TubBites" "w" "LTubBites$Water;") ∈ lw_all := lw_g (lw_at lw_m1 185 rfl) rfl
theorem q330 : (Jvm.Cond.soleField "TubBites" "w") ∈ lw_all := lw_g (lw_at lw_m1 186 rfl) rfl
theorem q331 : (Jvm.Cond.laysFinal "TubBites" "TubBites" "tape" "[B") ∈ lw_all := lw_g (lw_at lw_m1 187 rfl) rfl
theorem q332 : (Jvm.Cond.soleField "TubBites" "tape") ∈ lw_all := lw_g (lw_at lw_m1 188 rfl) rfl
theorem q333 : (Jvm.Cond.lays "TubBites" "TubBites" "taped" "I") ∈ lw_all := lw_g (lw_at lw_m1 189 rfl) rfl
theorem q334 : (Jvm.Cond.soleField "TubBites" "taped") ∈ lw_all := lw_g (lw_at lw_m1 190 rfl) rfl
theorem q335 : (Jvm.Cond.lays "TubBites" "TubBites" "time" "I") ∈ lw_all := lw_g (lw_at lw_m1 191 rfl) rfl
theorem q336 : (Jvm.Cond.soleField "TubBites" "time") ∈ lw_all := lw_g (lw_at lw_m1 192 rfl) rfl
theorem q337 : (Jvm.Cond.lays "TubBites" "TubBites" "faultKind" "I") ∈ lw_all := lw_g (lw_at lw_m1 193 rfl) rfl
theorem q338 : (Jvm.Cond.soleField "TubBites" "faultKind") ∈ lw_all := lw_g (lw_at lw_m1 194 rfl) rfl
theorem q339 : (Jvm.Cond.lays "TubBites" "TubBites" "faultPlace" "I") ∈ lw_all := lw_g (lw_at lw_m1 195 rfl) rfl
theorem q340 : (Jvm.Cond.soleField "TubBites" "faultPlace") ∈ lw_all := lw_g (lw_at lw_m1 196 rfl) rfl
theorem q341 : (Jvm.Cond.laysFinal "TubBites" "TubBites" "acts" "Ljava/util/ArrayList;") ∈ lw_all := lw_g (lw_at lw_m1 197 rfl) rfl
theorem q342 : (Jvm.Cond.soleField "TubBites" "acts") ∈ lw_all := lw_g (lw_at lw_m1 198 rfl) rfl
theorem q343 : (Jvm.Cond.laysFinal "TubBites" "TubBites" "undone" "Ljava/util/ArrayList;") ∈ lw_all := lw_g (lw_at lw_m1 199 rfl) rfl
theorem q344 : (Jvm.Cond.soleField "TubBites" "undone") ∈ lw_all := lw_g (lw_at lw_m1 200 rfl) rfl
theorem q345 : (Jvm.Cond.lays "TubBites" "TubBites" "looks" "I") ∈ lw_all := lw_g (lw_at lw_m1 201 rfl) rfl
theorem q346 : (Jvm.Cond.soleField "TubBites" "looks") ∈ lw_all := lw_g (lw_at lw_m1 202 rfl) rfl
theorem q347 : (Jvm.Cond.lays "TubBites" "TubBites" "firstTry" "I") ∈ lw_all := lw_g (lw_at lw_m1 203 rfl) rfl
theorem q348 : (Jvm.Cond.soleField "TubBites" "firstTry") ∈ lw_all := lw_g (lw_at lw_m1 204 rfl) rfl
theorem q349 : (Jvm.Cond.laysFinal "TubBites" "TubBites" "levels" "[I") ∈ lw_all := lw_g (lw_at lw_m1 205 rfl) rfl
theorem q350 : (Jvm.Cond.soleField "TubBites" "levels") ∈ lw_all := lw_g (lw_at lw_m1 206 rfl) rfl
theorem q351 : (Jvm.Cond.laysFinal "TubBites" "TubBites" "laidRow" "[I") ∈ lw_all := lw_g (lw_at lw_m1 207 rfl) rfl
theorem q352 : (Jvm.Cond.soleField "TubBites" "laidRow") ∈ lw_all := lw_g (lw_at lw_m1 208 rfl) rfl
theorem q353 : (Jvm.Cond.lays "TubBites" "TubBites" "laid" "I") ∈ lw_all := lw_g (lw_at lw_m1 209 rfl) rfl
theorem q354 : (Jvm.Cond.soleField "TubBites" "laid") ∈ lw_all := lw_g (lw_at lw_m1 210 rfl) rfl
theorem q355 : (Jvm.Cond.laysFinal "TubBites" "TubBites" "orderRow" "[I") ∈ lw_all := lw_g (lw_at lw_m1 211 rfl) rfl
theorem q356 : (Jvm.Cond.soleField "TubBites" "orderRow") ∈ lw_all := lw_g (lw_at lw_m1 212 rfl) rfl
theorem q357 : (Jvm.Cond.laysFinal "TubBites" "TubBites" "picks" "Ljava/util/ArrayList;") ∈ lw_all := lw_g (lw_at lw_m1 213 rfl) rfl
theorem q358 : (Jvm.Cond.soleField "TubBites" "picks") ∈ lw_all := lw_g (lw_at lw_m1 214 rfl) rfl
theorem q359 : (Jvm.Cond.laysFinal "TubBites" "TubBites" "boxes" "[LTubBites$Kept;") ∈ lw_all := lw_g (lw_at lw_m1 215 rfl) rfl
theorem q360 : (Jvm.Cond.soleField "TubBites" "boxes") ∈ lw_all := lw_g (lw_at lw_m1 216 rfl) rfl
theorem q361 : (Jvm.Cond.superclass "TubBites" "java/lang/Object") ∈ lw_all := lw_g (lw_at lw_m1 217 rfl) rfl
theorem q363 : (Jvm.Cond.instanceMethod ({ cls := "TubBites", name := "feed", desc := "(IIIII)I" } : Jvm.MethodName)) ∈ lw_all := lw_g (lw_at lw_m1 219 rfl) rfl
theorem q364 : (Jvm.Cond.selects "TubBites" ({ cls := "TubBites", name := "feed", desc := "(IIIII)I" } : Jvm.MethodName) ({ cls := "TubBites", name := "feed", desc := "(IIIII)I" } : Jvm.MethodName)) ∈ lw_all := lw_g (lw_at lw_m1 220 rfl) rfl
theorem q365 : (Jvm.Cond.code ({ cls := "TubBites", name := "feed", desc := "(IIIII)I" } : Jvm.MethodName) prog_1_method_10_code (6 : Nat) (Option.some Jvm.ClassFile.FieldType.int)) ∈ lw_all := lw_g (lw_at lw_m1 221 rfl) rfl
theorem q366 : (Jvm.Cond.methodLink "TubBites" (117 : Nat) ({ cls := "TubBites", name := "bytes", desc := "(I)V" } : Jvm.MethodName)) ∈ lw_all := lw_g (lw_at lw_m1 222 rfl) rfl
theorem q367 : (Jvm.Cond.privateMethod ({ cls := "TubBites", name := "bytes", desc := "(I)V" } : Jvm.MethodName)) ∈ lw_tbl := lw_at lw_m1 223 rfl
theorem q368 : (Jvm.Cond.instanceMethod ({ cls := "TubBites", name := "bytes", desc := "(I)V" } : Jvm.MethodName)) ∈ lw_all := lw_g (lw_at lw_m1 224 rfl) rfl
theorem q369 : (Jvm.Cond.code ({ cls := "TubBites", name := "bytes", desc := "(I)V" } : Jvm.MethodName) prog_1_method_11_code (3 : Nat) (Option.none : Option Jvm.ClassFile.FieldType)) ∈ lw_all := lw_g (lw_at lw_m1 225 rfl) rfl
theorem q371 : (Jvm.Cond.instanceMethod ({ cls := "TubBites", name := "end", desc := "(I)I" } : Jvm.MethodName)) ∈ lw_all := lw_g (lw_at lw_m1 227 rfl) rfl
theorem q372 : (Jvm.Cond.selects "TubBites" ({ cls := "TubBites", name := "end", desc := "(I)I" } : Jvm.MethodName) ({ cls := "TubBites", name := "end", desc := "(I)I" } : Jvm.MethodName)) ∈ lw_all := lw_g (lw_at lw_m1 228 rfl) rfl
theorem q373 : (Jvm.Cond.code ({ cls := "TubBites", name := "end", desc := "(I)I" } : Jvm.MethodName) prog_1_method_12_code (2 : Nat) (Option.some Jvm.ClassFile.FieldType.int)) ∈ lw_all := lw_g (lw_at lw_m1 229 rfl) rfl
theorem q375 : (Jvm.Cond.instanceMethod ({ cls := "TubBites", name := "tub", desc := "()I" } : Jvm.MethodName)) ∈ lw_all := lw_g (lw_at lw_m1 231 rfl) rfl
theorem q376 : (Jvm.Cond.selects "TubBites" ({ cls := "TubBites", name := "tub", desc := "()I" } : Jvm.MethodName) ({ cls := "TubBites", name := "tub", desc := "()I" } : Jvm.MethodName)) ∈ lw_all := lw_g (lw_at lw_m1 232 rfl) rfl
theorem q377 : (Jvm.Cond.codeWith ({ cls := "TubBites", name := "tub", desc := "()I" } : Jvm.MethodName) prog_1_method_13_code (3 : Nat) (Option.some Jvm.ClassFile.FieldType.int) [((20 : Nat), (39 : Nat), (42 : Nat), (133 : Nat))]) ∈ lw_all := lw_g (lw_at lw_m1 233 rfl) rfl
theorem q378 : (Jvm.Cond.classLink "TubBites" (133 : Nat) "TubBites$Wrong") ∈ lw_all := lw_g (lw_at lw_m1 234 rfl) rfl
theorem q379 : (Jvm.Cond.classLink "TubBites" (124 : Nat) "TubBites$Reader") ∈ lw_all := lw_g (lw_at lw_m1 235 rfl) rfl
theorem q381 : (Jvm.Cond.methodLink "TubBites" (126 : Nat) ({ cls := "TubBites$Reader", name := "<init>", desc := "([BI)V" } : Jvm.MethodName)) ∈ lw_all := lw_g (lw_at lw_m1 237 rfl) rfl
theorem q418 : (Jvm.Cond.methodLink "TubBites" (129 : Nat) ({ cls := "TubBites$Reader", name := "read", desc := "()LTubBites$Water;" } : Jvm.MethodName)) ∈ lw_all := lw_g (lw_at lw_m2 34 rfl) rfl
theorem q567 : (Jvm.Cond.fieldLinkNest "TubBites" (135 : Nat) "TubBites$Wrong" "kind" "I" "TubBites") ∈ lw_tbl := lw_at lw_m2 183 rfl
theorem q569 : (Jvm.Cond.fieldLinkNest "TubBites" (138 : Nat) "TubBites$Wrong" "place" "I" "TubBites") ∈ lw_tbl := lw_at lw_m2 185 rfl
theorem q778 : (Jvm.Cond.selects "TubBites" ({ cls := "java/lang/Object", name := "getClass", desc := "()Ljava/lang/Class;" } : Jvm.MethodName) ({ cls := "java/lang/Object", name := "getClass", desc := "()Ljava/lang/Class;" } : Jvm.MethodName)) ∈ lw_all := lw_g (lw_at lw_m3 154 rfl) rfl
theorem q841 : (Jvm.Cond.fieldLinkNest "TubBites" (327 : Nat) "TubBites$Apple" "coin" "I" "TubBites") ∈ lw_tbl := lw_at lw_m3 217 rfl
theorem q850 : (Jvm.Cond.fieldLinkNest "TubBites" (147 : Nat) "TubBites$Apple" "x" "I" "TubBites") ∈ lw_tbl := lw_at lw_m3 226 rfl
theorem q856 : (Jvm.Cond.fieldLinkNest "TubBites" (150 : Nat) "TubBites$Apple" "y" "I" "TubBites") ∈ lw_tbl := lw_at lw_m3 232 rfl
theorem q860 : (Jvm.Cond.fieldLinkNest "TubBites" (153 : Nat) "TubBites$Apple" "by" "I" "TubBites") ∈ lw_tbl := lw_at lw_m3 236 rfl
theorem q864 : (Jvm.Cond.fieldLinkNest "TubBites" (156 : Nat) "TubBites$Apple" "missed" "I" "TubBites") ∈ lw_tbl := lw_at lw_m4 0 rfl
theorem q868 : (Jvm.Cond.fieldLinkNest "TubBites" (159 : Nat) "TubBites$Apple" "size" "I" "TubBites") ∈ lw_tbl := lw_at lw_m4 4 rfl
theorem q918 : (Jvm.Cond.fieldLinkNest "TubBites" (274 : Nat) "TubBites$Bobber" "x" "I" "TubBites") ∈ lw_tbl := lw_at lw_m4 54 rfl
theorem q922 : (Jvm.Cond.fieldLinkNest "TubBites" (275 : Nat) "TubBites$Bobber" "y" "I" "TubBites") ∈ lw_tbl := lw_at lw_m4 58 rfl
theorem q928 : (Jvm.Cond.fieldLinkNest "TubBites" (249 : Nat) "TubBites$Bobber" "allBreath" "I" "TubBites") ∈ lw_tbl := lw_at lw_m4 64 rfl
theorem q932 : (Jvm.Cond.fieldLinkNest "TubBites" (109 : Nat) "TubBites$Bobber" "rule" "I" "TubBites") ∈ lw_tbl := lw_at lw_m4 68 rfl
theorem q936 : (Jvm.Cond.fieldLinkNest "TubBites" (164 : Nat) "TubBites$Bobber" "breath" "I" "TubBites") ∈ lw_tbl := lw_at lw_m4 72 rfl
theorem q938 : (Jvm.Cond.fieldLinkNest "TubBites" (167 : Nat) "TubBites$Bobber" "got" "I" "TubBites") ∈ lw_tbl := lw_at lw_m4 74 rfl
theorem q942 : (Jvm.Cond.fieldLinkNest "TubBites" (170 : Nat) "TubBites$Bobber" "seconds" "I" "TubBites") ∈ lw_tbl := lw_at lw_m4 78 rfl
theorem q945 : (Jvm.Cond.fieldLinkNest "TubBites" (268 : Nat) "TubBites$Bobber" "records" "[I" "TubBites") ∈ lw_tbl := lw_at lw_m4 81 rfl
theorem q994 : (Jvm.Cond.methodLink "TubBites" (68 : Nat) ({ cls := "java/util/ArrayList", name := "size", desc := "()I" } : Jvm.MethodName)) ∈ lw_all := lw_g (lw_at lw_m4 130 rfl) rfl
theorem q996 : (Jvm.Cond.instanceMethod ({ cls := "TubBites", name := "fault", desc := "(I)I" } : Jvm.MethodName)) ∈ lw_all := lw_g (lw_at lw_m4 132 rfl) rfl
theorem q997 : (Jvm.Cond.selects "TubBites" ({ cls := "TubBites", name := "fault", desc := "(I)I" } : Jvm.MethodName) ({ cls := "TubBites", name := "fault", desc := "(I)I" } : Jvm.MethodName)) ∈ lw_all := lw_g (lw_at lw_m4 133 rfl) rfl
theorem q998 : (Jvm.Cond.code ({ cls := "TubBites", name := "fault", desc := "(I)I" } : Jvm.MethodName) prog_1_method_14_code (2 : Nat) (Option.some Jvm.ClassFile.FieldType.int)) ∈ lw_all := lw_g (lw_at lw_m4 134 rfl) rfl
theorem q1000 : (Jvm.Cond.instanceMethod ({ cls := "TubBites", name := "apple", desc := "(II)I" } : Jvm.MethodName)) ∈ lw_all := lw_g (lw_at lw_m4 136 rfl) rfl
theorem q1001 : (Jvm.Cond.selects "TubBites" ({ cls := "TubBites", name := "apple", desc := "(II)I" } : Jvm.MethodName) ({ cls := "TubBites", name := "apple", desc := "(II)I" } : Jvm.MethodName)) ∈ lw_all := lw_g (lw_at lw_m4 137 rfl) rfl
theorem q1002 : (Jvm.Cond.code ({ cls := "TubBites", name := "apple", desc := "(II)I" } : Jvm.MethodName) prog_1_method_15_code (4 : Nat) (Option.some Jvm.ClassFile.FieldType.int)) ∈ lw_all := lw_g (lw_at lw_m4 138 rfl) rfl
theorem q1003 : (Jvm.Cond.methodLink "TubBites" (141 : Nat) ({ cls := "TubBites", name := "isApple", desc := "(I)Z" } : Jvm.MethodName)) ∈ lw_all := lw_g (lw_at lw_m4 139 rfl) rfl
theorem q1004 : (Jvm.Cond.privateMethod ({ cls := "TubBites", name := "isApple", desc := "(I)Z" } : Jvm.MethodName)) ∈ lw_tbl := lw_at lw_m4 140 rfl
theorem q1005 : (Jvm.Cond.instanceMethod ({ cls := "TubBites", name := "isApple", desc := "(I)Z" } : Jvm.MethodName)) ∈ lw_all := lw_g (lw_at lw_m4 141 rfl) rfl
theorem q1006 : (Jvm.Cond.code ({ cls := "TubBites", name := "isApple", desc := "(I)Z" } : Jvm.MethodName) prog_1_method_6_code (2 : Nat) (Option.some Jvm.ClassFile.FieldType.boolean)) ∈ lw_all := lw_g (lw_at lw_m4 142 rfl) rfl
theorem q1007 : (Jvm.Cond.methodLink "TubBites" (90 : Nat) ({ cls := "TubBites", name := "isIn", desc := "(III)Z" } : Jvm.MethodName)) ∈ lw_all := lw_g (lw_at lw_m4 143 rfl) rfl
theorem q1008 : (Jvm.Cond.static ({ cls := "TubBites", name := "isIn", desc := "(III)Z" } : Jvm.MethodName)) ∈ lw_all := lw_g (lw_at lw_m4 144 rfl) rfl
theorem q1009 : (Jvm.Cond.code ({ cls := "TubBites", name := "isIn", desc := "(III)Z" } : Jvm.MethodName) prog_1_method_1_code (3 : Nat) (Option.some Jvm.ClassFile.FieldType.boolean)) ∈ lw_all := lw_g (lw_at lw_m4 145 rfl) rfl
theorem q1010 : (Jvm.Cond.methodLink "TubBites" (104 : Nat) ({ cls := "java/util/ArrayList", name := "get", desc := "(I)Ljava/lang/Object;" } : Jvm.MethodName)) ∈ lw_all := lw_g (lw_at lw_m4 146 rfl) rfl
theorem q1011 : (Jvm.Cond.classLink "TubBites" (145 : Nat) "TubBites$Apple") ∈ lw_all := lw_g (lw_at lw_m4 147 rfl) rfl
theorem q1013 : (Jvm.Cond.instanceMethod ({ cls := "TubBites", name := "bobber", desc := "(II)I" } : Jvm.MethodName)) ∈ lw_all := lw_g (lw_at lw_m4 149 rfl) rfl
theorem q1014 : (Jvm.Cond.selects "TubBites" ({ cls := "TubBites", name := "bobber", desc := "(II)I" } : Jvm.MethodName) ({ cls := "TubBites", name := "bobber", desc := "(II)I" } : Jvm.MethodName)) ∈ lw_all := lw_g (lw_at lw_m4 150 rfl) rfl
theorem q1015 : (Jvm.Cond.code ({ cls := "TubBites", name := "bobber", desc := "(II)I" } : Jvm.MethodName) prog_1_method_16_code (4 : Nat) (Option.some Jvm.ClassFile.FieldType.int)) ∈ lw_all := lw_g (lw_at lw_m4 151 rfl) rfl
theorem q1016 : (Jvm.Cond.methodLink "TubBites" (161 : Nat) ({ cls := "TubBites", name := "isBobber", desc := "(I)Z" } : Jvm.MethodName)) ∈ lw_all := lw_g (lw_at lw_m4 152 rfl) rfl
theorem q1017 : (Jvm.Cond.privateMethod ({ cls := "TubBites", name := "isBobber", desc := "(I)Z" } : Jvm.MethodName)) ∈ lw_tbl := lw_at lw_m4 153 rfl
theorem q1018 : (Jvm.Cond.instanceMethod ({ cls := "TubBites", name := "isBobber", desc := "(I)Z" } : Jvm.MethodName)) ∈ lw_all := lw_g (lw_at lw_m4 154 rfl) rfl
theorem q1019 : (Jvm.Cond.code ({ cls := "TubBites", name := "isBobber", desc := "(I)Z" } : Jvm.MethodName) prog_1_method_7_code (2 : Nat) (Option.some Jvm.ClassFile.FieldType.boolean)) ∈ lw_all := lw_g (lw_at lw_m4 155 rfl) rfl
theorem q1020 : (Jvm.Cond.classLink "TubBites" (107 : Nat) "TubBites$Bobber") ∈ lw_all := lw_g (lw_at lw_m4 156 rfl) rfl
theorem q1022 : (Jvm.Cond.instanceMethod ({ cls := "TubBites", name := "odds", desc := "(III)I" } : Jvm.MethodName)) ∈ lw_all := lw_g (lw_at lw_m4 158 rfl) rfl
theorem q1023 : (Jvm.Cond.selects "TubBites" ({ cls := "TubBites", name := "odds", desc := "(III)I" } : Jvm.MethodName) ({ cls := "TubBites", name := "odds", desc := "(III)I" } : Jvm.MethodName)) ∈ lw_all := lw_g (lw_at lw_m4 159 rfl) rfl
theorem q1024 : (Jvm.Cond.code ({ cls := "TubBites", name := "odds", desc := "(III)I" } : Jvm.MethodName) prog_1_method_18_code (4 : Nat) (Option.some Jvm.ClassFile.FieldType.int)) ∈ lw_all := lw_g (lw_at lw_m4 160 rfl) rfl
theorem q1025 : (Jvm.Cond.methodLink "TubBites" (177 : Nat) ({ cls := "TubBites", name := "isTry", desc := "(III)Z" } : Jvm.MethodName)) ∈ lw_all := lw_g (lw_at lw_m4 161 rfl) rfl
theorem q1026 : (Jvm.Cond.privateMethod ({ cls := "TubBites", name := "isTry", desc := "(III)Z" } : Jvm.MethodName)) ∈ lw_tbl := lw_at lw_m4 162 rfl
theorem q1027 : (Jvm.Cond.instanceMethod ({ cls := "TubBites", name := "isTry", desc := "(III)Z" } : Jvm.MethodName)) ∈ lw_all := lw_g (lw_at lw_m4 163 rfl) rfl
theorem q1028 : (Jvm.Cond.code ({ cls := "TubBites", name := "isTry", desc := "(III)Z" } : Jvm.MethodName) prog_1_method_17_code (4 : Nat) (Option.some Jvm.ClassFile.FieldType.boolean)) ∈ lw_all := lw_g (lw_at lw_m4 164 rfl) rfl
theorem q1029 : (Jvm.Cond.methodLink "TubBites" (173 : Nat) ({ cls := "TubBites$Water", name := "can", desc := "(LTubBites$Bobber;LTubBites$Apple;I)Z" } : Jvm.MethodName)) ∈ lw_all := lw_g (lw_at lw_m4 165 rfl) rfl
theorem q1042 : (Jvm.Cond.laysStatic "TubBites" "TRIES" "[LTubBites$Try;") ∈ lw_tbl := lw_at lw_m4 178 rfl
theorem q1099 : (Jvm.Cond.methodLink "TubBites" (180 : Nat) ({ cls := "TubBites$Water", name := "odds", desc := "(LTubBites$Bobber;LTubBites$Apple;I)I" } : Jvm.MethodName)) ∈ lw_all := lw_g (lw_at lw_m4 235 rfl) rfl
theorem q1131 : (Jvm.Cond.instanceMethod ({ cls := "TubBites", name := "chooses", desc := "(I)I" } : Jvm.MethodName)) ∈ lw_all := lw_g (lw_at lw_m5 27 rfl) rfl
theorem q1132 : (Jvm.Cond.selects "TubBites" ({ cls := "TubBites", name := "chooses", desc := "(I)I" } : Jvm.MethodName) ({ cls := "TubBites", name := "chooses", desc := "(I)I" } : Jvm.MethodName)) ∈ lw_all := lw_g (lw_at lw_m5 28 rfl) rfl
theorem q1133 : (Jvm.Cond.code ({ cls := "TubBites", name := "chooses", desc := "(I)I" } : Jvm.MethodName) prog_1_method_19_code (2 : Nat) (Option.some Jvm.ClassFile.FieldType.int)) ∈ lw_all := lw_g (lw_at lw_m5 29 rfl) rfl
theorem q1134 : (Jvm.Cond.methodLink "TubBites" (184 : Nat) ({ cls := "TubBites", name := "ruleOf", desc := "(I)LTubBites$Rule;" } : Jvm.MethodName)) ∈ lw_all := lw_g (lw_at lw_m5 30 rfl) rfl
theorem q1135 : (Jvm.Cond.privateMethod ({ cls := "TubBites", name := "ruleOf", desc := "(I)LTubBites$Rule;" } : Jvm.MethodName)) ∈ lw_tbl := lw_at lw_m5 31 rfl
theorem q1136 : (Jvm.Cond.instanceMethod ({ cls := "TubBites", name := "ruleOf", desc := "(I)LTubBites$Rule;" } : Jvm.MethodName)) ∈ lw_all := lw_g (lw_at lw_m5 32 rfl) rfl
theorem q1137 : (Jvm.Cond.code ({ cls := "TubBites", name := "ruleOf", desc := "(I)LTubBites$Rule;" } : Jvm.MethodName) prog_1_method_9_code (2 : Nat) (Option.some (Jvm.ClassFile.FieldType.object "TubBites$Rule"))) ∈ lw_all := lw_g (lw_at lw_m5 33 rfl) rfl
theorem q1138 : (Jvm.Cond.methodLink "TubBites" (100 : Nat) ({ cls := "java/util/ArrayList", name := "isEmpty", desc := "()Z" } : Jvm.MethodName)) ∈ lw_all := lw_g (lw_at lw_m5 34 rfl) rfl
theorem q1142 : (Jvm.Cond.classLink "TubBites" (112 : Nat) "TubBites$Rule") ∈ lw_all := lw_g (lw_at lw_m5 38 rfl) rfl
theorem q1143 : (Jvm.Cond.methodLink "TubBites" (188 : Nat) ({ cls := "TubBites$Water", name := "chooses", desc := "(LTubBites$Rule;LTubBites$Bobber;)I" } : Jvm.MethodName)) ∈ lw_all := lw_g (lw_at lw_m5 39 rfl) rfl
theorem q1154 : (Jvm.Cond.instanceMethod ({ cls := "TubBites", name := "go", desc := "(III)I" } : Jvm.MethodName)) ∈ lw_all := lw_g (lw_at lw_m5 50 rfl) rfl
theorem q1155 : (Jvm.Cond.selects "TubBites" ({ cls := "TubBites", name := "go", desc := "(III)I" } : Jvm.MethodName) ({ cls := "TubBites", name := "go", desc := "(III)I" } : Jvm.MethodName)) ∈ lw_all := lw_g (lw_at lw_m5 51 rfl) rfl
theorem q1156 : (Jvm.Cond.code ({ cls := "TubBites", name := "go", desc := "(III)I" } : Jvm.MethodName) prog_1_method_20_code (4 : Nat) (Option.some Jvm.ClassFile.FieldType.int)) ∈ lw_all := lw_g (lw_at lw_m5 52 rfl) rfl
theorem q1157 : (Jvm.Cond.methodLink "TubBites" (192 : Nat) ({ cls := "TubBites", name := "keepAct", desc := "()V" } : Jvm.MethodName)) ∈ lw_all := lw_g (lw_at lw_m5 53 rfl) rfl
theorem q1158 : (Jvm.Cond.privateMethod ({ cls := "TubBites", name := "keepAct", desc := "()V" } : Jvm.MethodName)) ∈ lw_tbl := lw_at lw_m5 54 rfl
theorem q1159 : (Jvm.Cond.instanceMethod ({ cls := "TubBites", name := "keepAct", desc := "()V" } : Jvm.MethodName)) ∈ lw_all := lw_g (lw_at lw_m5 55 rfl) rfl
theorem q1160 : (Jvm.Cond.code ({ cls := "TubBites", name := "keepAct", desc := "()V" } : Jvm.MethodName) prog_1_method_4_code (1 : Nat) (Option.none : Option Jvm.ClassFile.FieldType)) ∈ lw_all := lw_g (lw_at lw_m5 56 rfl) rfl
theorem q1161 : (Jvm.Cond.methodLink "TubBites" (72 : Nat) ({ cls := "java/util/ArrayList", name := "remove", desc := "(I)Ljava/lang/Object;" } : Jvm.MethodName)) ∈ lw_all := lw_g (lw_at lw_m5 57 rfl) rfl
theorem q1170 : (Jvm.Cond.methodLink "TubBites" (76 : Nat) ({ cls := "TubBites$Water", name := "keep", desc := "()[I" } : Jvm.MethodName)) ∈ lw_all := lw_g (lw_at lw_m5 66 rfl) rfl
theorem q1179 : (Jvm.Cond.methodLink "TubBites" (80 : Nat) ({ cls := "java/util/ArrayList", name := "add", desc := "(Ljava/lang/Object;)Z" } : Jvm.MethodName)) ∈ lw_all := lw_g (lw_at lw_m5 75 rfl) rfl
theorem q1180 : (Jvm.Cond.methodLink "TubBites" (195 : Nat) ({ cls := "TubBites$Water", name := "go", desc := "(III)Z" } : Jvm.MethodName)) ∈ lw_all := lw_g (lw_at lw_m5 76 rfl) rfl
theorem q1245 : (Jvm.Cond.instanceMethod ({ cls := "TubBites", name := "breathe", desc := "(I)I" } : Jvm.MethodName)) ∈ lw_all := lw_g (lw_at lw_m5 141 rfl) rfl
theorem q1246 : (Jvm.Cond.selects "TubBites" ({ cls := "TubBites", name := "breathe", desc := "(I)I" } : Jvm.MethodName) ({ cls := "TubBites", name := "breathe", desc := "(I)I" } : Jvm.MethodName)) ∈ lw_all := lw_g (lw_at lw_m5 142 rfl) rfl
theorem q1247 : (Jvm.Cond.code ({ cls := "TubBites", name := "breathe", desc := "(I)I" } : Jvm.MethodName) prog_1_method_21_code (2 : Nat) (Option.some Jvm.ClassFile.FieldType.int)) ∈ lw_all := lw_g (lw_at lw_m5 143 rfl) rfl
theorem q1248 : (Jvm.Cond.methodLink "TubBites" (198 : Nat) ({ cls := "TubBites$Water", name := "breathes", desc := "(LTubBites$Bobber;)V" } : Jvm.MethodName)) ∈ lw_all := lw_g (lw_at lw_m5 144 rfl) rfl
theorem q1253 : (Jvm.Cond.instanceMethod ({ cls := "TubBites", name := "wave", desc := "(I)I" } : Jvm.MethodName)) ∈ lw_all := lw_g (lw_at lw_m5 149 rfl) rfl
theorem q1254 : (Jvm.Cond.selects "TubBites" ({ cls := "TubBites", name := "wave", desc := "(I)I" } : Jvm.MethodName) ({ cls := "TubBites", name := "wave", desc := "(I)I" } : Jvm.MethodName)) ∈ lw_all := lw_g (lw_at lw_m5 150 rfl) rfl
theorem q1255 : (Jvm.Cond.code ({ cls := "TubBites", name := "wave", desc := "(I)I" } : Jvm.MethodName) prog_1_method_22_code (2 : Nat) (Option.some Jvm.ClassFile.FieldType.int)) ∈ lw_all := lw_g (lw_at lw_m5 151 rfl) rfl
theorem q1256 : (Jvm.Cond.methodLink "TubBites" (202 : Nat) ({ cls := "TubBites$Water", name := "wave", desc := "(I)I" } : Jvm.MethodName)) ∈ lw_all := lw_g (lw_at lw_m5 152 rfl) rfl
theorem q1265 : (Jvm.Cond.instanceMethod ({ cls := "TubBites", name := "party", desc := "(I)I" } : Jvm.MethodName)) ∈ lw_all := lw_g (lw_at lw_m5 161 rfl) rfl
theorem q1266 : (Jvm.Cond.selects "TubBites" ({ cls := "TubBites", name := "party", desc := "(I)I" } : Jvm.MethodName) ({ cls := "TubBites", name := "party", desc := "(I)I" } : Jvm.MethodName)) ∈ lw_all := lw_g (lw_at lw_m5 162 rfl) rfl
theorem q1267 : (Jvm.Cond.code ({ cls := "TubBites", name := "party", desc := "(I)I" } : Jvm.MethodName) prog_1_method_23_code (5 : Nat) (Option.some Jvm.ClassFile.FieldType.int)) ∈ lw_all := lw_g (lw_at lw_m5 163 rfl) rfl
theorem q1268 : (Jvm.Cond.methodLink "TubBites" (206 : Nat) ({ cls := "TubBites$Water", name := "turn", desc := "(ILTubBites$Rule;)Z" } : Jvm.MethodName)) ∈ lw_all := lw_g (lw_at lw_m5 164 rfl) rfl
theorem q1276 : (Jvm.Cond.instanceMethod ({ cls := "TubBites", name := "undo", desc := "()Z" } : Jvm.MethodName)) ∈ lw_all := lw_g (lw_at lw_m5 172 rfl) rfl
theorem q1277 : (Jvm.Cond.selects "TubBites" ({ cls := "TubBites", name := "undo", desc := "()Z" } : Jvm.MethodName) ({ cls := "TubBites", name := "undo", desc := "()Z" } : Jvm.MethodName)) ∈ lw_all := lw_g (lw_at lw_m5 173 rfl) rfl
theorem q1278 : (Jvm.Cond.code ({ cls := "TubBites", name := "undo", desc := "()Z" } : Jvm.MethodName) prog_1_method_24_code (1 : Nat) (Option.some Jvm.ClassFile.FieldType.boolean)) ∈ lw_all := lw_g (lw_at lw_m5 174 rfl) rfl
theorem q1279 : (Jvm.Cond.methodLink "TubBites" (210 : Nat) ({ cls := "TubBites", name := "turned", desc := "(LTubBites$Kept;)LTubBites$Kept;" } : Jvm.MethodName)) ∈ lw_all := lw_g (lw_at lw_m5 175 rfl) rfl
theorem q1280 : (Jvm.Cond.privateMethod ({ cls := "TubBites", name := "turned", desc := "(LTubBites$Kept;)LTubBites$Kept;" } : Jvm.MethodName)) ∈ lw_tbl := lw_at lw_m5 176 rfl
theorem q1281 : (Jvm.Cond.instanceMethod ({ cls := "TubBites", name := "turned", desc := "(LTubBites$Kept;)LTubBites$Kept;" } : Jvm.MethodName)) ∈ lw_all := lw_g (lw_at lw_m5 177 rfl) rfl
theorem q1282 : (Jvm.Cond.code ({ cls := "TubBites", name := "turned", desc := "(LTubBites$Kept;)LTubBites$Kept;" } : Jvm.MethodName) prog_1_method_5_code (3 : Nat) (Option.some (Jvm.ClassFile.FieldType.object "TubBites$Kept"))) ∈ lw_all := lw_g (lw_at lw_m5 178 rfl) rfl
theorem q1283 : (Jvm.Cond.methodLink "TubBites" (84 : Nat) ({ cls := "TubBites$Water", name := "bring", desc := "([I)V" } : Jvm.MethodName)) ∈ lw_all := lw_g (lw_at lw_m5 179 rfl) rfl
theorem q1292 : (Jvm.Cond.instanceMethod ({ cls := "TubBites", name := "redo", desc := "()Z" } : Jvm.MethodName)) ∈ lw_all := lw_g (lw_at lw_m5 188 rfl) rfl
theorem q1293 : (Jvm.Cond.selects "TubBites" ({ cls := "TubBites", name := "redo", desc := "()Z" } : Jvm.MethodName) ({ cls := "TubBites", name := "redo", desc := "()Z" } : Jvm.MethodName)) ∈ lw_all := lw_g (lw_at lw_m5 189 rfl) rfl
theorem q1294 : (Jvm.Cond.code ({ cls := "TubBites", name := "redo", desc := "()Z" } : Jvm.MethodName) prog_1_method_25_code (1 : Nat) (Option.some Jvm.ClassFile.FieldType.boolean)) ∈ lw_all := lw_g (lw_at lw_m5 190 rfl) rfl
theorem q1296 : (Jvm.Cond.instanceMethod ({ cls := "TubBites", name := "best", desc := "(III)I" } : Jvm.MethodName)) ∈ lw_all := lw_g (lw_at lw_m5 192 rfl) rfl
theorem q1297 : (Jvm.Cond.selects "TubBites" ({ cls := "TubBites", name := "best", desc := "(III)I" } : Jvm.MethodName) ({ cls := "TubBites", name := "best", desc := "(III)I" } : Jvm.MethodName)) ∈ lw_all := lw_g (lw_at lw_m5 193 rfl) rfl
theorem q1298 : (Jvm.Cond.code ({ cls := "TubBites", name := "best", desc := "(III)I" } : Jvm.MethodName) prog_1_method_27_code (6 : Nat) (Option.some Jvm.ClassFile.FieldType.int)) ∈ lw_all := lw_g (lw_at lw_m5 194 rfl) rfl
theorem q1299 : (Jvm.Cond.methodLink "TubBites" (233 : Nat) ({ cls := "TubBites", name := "bestOf", desc := "(LTubBites$Bobber;II)I" } : Jvm.MethodName)) ∈ lw_all := lw_g (lw_at lw_m5 195 rfl) rfl
theorem q1300 : (Jvm.Cond.privateMethod ({ cls := "TubBites", name := "bestOf", desc := "(LTubBites$Bobber;II)I" } : Jvm.MethodName)) ∈ lw_tbl := lw_at lw_m5 196 rfl
theorem q1301 : (Jvm.Cond.instanceMethod ({ cls := "TubBites", name := "bestOf", desc := "(LTubBites$Bobber;II)I" } : Jvm.MethodName)) ∈ lw_all := lw_g (lw_at lw_m5 197 rfl) rfl
theorem q1302 : (Jvm.Cond.code ({ cls := "TubBites", name := "bestOf", desc := "(LTubBites$Bobber;II)I" } : Jvm.MethodName) prog_1_method_26_code (14 : Nat) (Option.some Jvm.ClassFile.FieldType.int)) ∈ lw_all := lw_g (lw_at lw_m5 198 rfl) rfl
theorem q1303 : (Jvm.Cond.methodLink "TubBites" (217 : Nat) ({ cls := "TubBites$Water", name := "keepAt", desc := "([II)V" } : Jvm.MethodName)) ∈ lw_all := lw_g (lw_at lw_m5 199 rfl) rfl
theorem q1304 : (Jvm.Cond.fieldLink "TubBites" (221 : Nat) "TubBites" "TRIES" "[LTubBites$Try;") ∈ lw_all := lw_g (lw_at lw_m5 200 rfl) rfl
theorem q1305 : (Jvm.Cond.methodLink "TubBites" (225 : Nat) ({ cls := "TubBites$Try", name := "seconds", desc := "()I" } : Jvm.MethodName)) ∈ lw_all := lw_g (lw_at lw_m5 201 rfl) rfl
theorem q1306 : (Jvm.Cond.methodLink "TubBites" (229 : Nat) ({ cls := "TubBites$Water", name := "takes", desc := "(LTubBites$Bobber;I)V" } : Jvm.MethodName)) ∈ lw_all := lw_g (lw_at lw_m5 202 rfl) rfl
theorem q1307 : (Jvm.Cond.methodLink "TubBites" (237 : Nat) ({ cls := "TubBites$Water", name := "bringAt", desc := "([II)V" } : Jvm.MethodName)) ∈ lw_all := lw_g (lw_at lw_m5 203 rfl) rfl
theorem q1308 : (Jvm.Cond.methodLink "TubBites" (240 : Nat) ({ cls := "TubBites$Try", name := "missed", desc := "(LTubBites$Water;LTubBites$Bobber;LTubBites$Apple;)V" } : Jvm.MethodName)) ∈ lw_all := lw_g (lw_at lw_m5 204 rfl) rfl
theorem q1309 : (Jvm.Cond.constant "TubBites" (243 : Nat) (1000000 : Int32)) ∈ lw_all := lw_g (lw_at lw_m5 205 rfl) rfl
theorem q1310 : (Jvm.Cond.constantLong "TubBites" (244 : Nat) (100 : Int64)) ∈ lw_all := lw_g (lw_at lw_m5 206 rfl) rfl
theorem q1311 : (Jvm.Cond.methodLink "TubBites" (252 : Nat) ({ cls := "java/lang/Math", name := "max", desc := "(II)I" } : Jvm.MethodName)) ∈ lw_all := lw_g (lw_at lw_m5 207 rfl) rfl
theorem q1313 : (Jvm.Cond.instanceMethod ({ cls := "TubBites", name := "match", desc := "(II)I" } : Jvm.MethodName)) ∈ lw_all := lw_g (lw_at lw_m5 209 rfl) rfl
theorem q1314 : (Jvm.Cond.selects "TubBites" ({ cls := "TubBites", name := "match", desc := "(II)I" } : Jvm.MethodName) ({ cls := "TubBites", name := "match", desc := "(II)I" } : Jvm.MethodName)) ∈ lw_all := lw_g (lw_at lw_m5 210 rfl) rfl
theorem q1315 : (Jvm.Cond.code ({ cls := "TubBites", name := "match", desc := "(II)I" } : Jvm.MethodName) prog_1_method_30_code (3 : Nat) (Option.some Jvm.ClassFile.FieldType.int)) ∈ lw_all := lw_g (lw_at lw_m5 211 rfl) rfl
theorem q1316 : (Jvm.Cond.methodLink "TubBites" (258 : Nat) ({ cls := "TubBites", name := "isRule", desc := "(I)Z" } : Jvm.MethodName)) ∈ lw_all := lw_g (lw_at lw_m5 212 rfl) rfl
theorem q1317 : (Jvm.Cond.privateMethod ({ cls := "TubBites", name := "isRule", desc := "(I)Z" } : Jvm.MethodName)) ∈ lw_tbl := lw_at lw_m5 213 rfl
theorem q1318 : (Jvm.Cond.instanceMethod ({ cls := "TubBites", name := "isRule", desc := "(I)Z" } : Jvm.MethodName)) ∈ lw_all := lw_g (lw_at lw_m5 214 rfl) rfl
theorem q1319 : (Jvm.Cond.code ({ cls := "TubBites", name := "isRule", desc := "(I)Z" } : Jvm.MethodName) prog_1_method_8_code (2 : Nat) (Option.some Jvm.ClassFile.FieldType.boolean)) ∈ lw_all := lw_g (lw_at lw_m5 215 rfl) rfl
theorem q1320 : (Jvm.Cond.methodLink "TubBites" (261 : Nat) ({ cls := "TubBites", name := "canMatch", desc := "()Z" } : Jvm.MethodName)) ∈ lw_all := lw_g (lw_at lw_m5 216 rfl) rfl
theorem q1321 : (Jvm.Cond.privateMethod ({ cls := "TubBites", name := "canMatch", desc := "()Z" } : Jvm.MethodName)) ∈ lw_tbl := lw_at lw_m5 217 rfl
theorem q1322 : (Jvm.Cond.instanceMethod ({ cls := "TubBites", name := "canMatch", desc := "()Z" } : Jvm.MethodName)) ∈ lw_all := lw_g (lw_at lw_m5 218 rfl) rfl
theorem q1323 : (Jvm.Cond.code ({ cls := "TubBites", name := "canMatch", desc := "()Z" } : Jvm.MethodName) prog_1_method_29_code (1 : Nat) (Option.some Jvm.ClassFile.FieldType.boolean)) ∈ lw_all := lw_g (lw_at lw_m5 219 rfl) rfl
theorem q1324 : (Jvm.Cond.methodLink "TubBites" (264 : Nat) ({ cls := "TubBites", name := "matchOf", desc := "(II)I" } : Jvm.MethodName)) ∈ lw_all := lw_g (lw_at lw_m5 220 rfl) rfl
theorem q1325 : (Jvm.Cond.privateMethod ({ cls := "TubBites", name := "matchOf", desc := "(II)I" } : Jvm.MethodName)) ∈ lw_tbl := lw_at lw_m5 221 rfl
theorem q1326 : (Jvm.Cond.instanceMethod ({ cls := "TubBites", name := "matchOf", desc := "(II)I" } : Jvm.MethodName)) ∈ lw_all := lw_g (lw_at lw_m5 222 rfl) rfl
theorem q1327 : (Jvm.Cond.code ({ cls := "TubBites", name := "matchOf", desc := "(II)I" } : Jvm.MethodName) prog_1_method_28_code (5 : Nat) (Option.some Jvm.ClassFile.FieldType.int)) ∈ lw_all := lw_g (lw_at lw_m5 223 rfl) rfl
theorem q1328 : (Jvm.Cond.constant "TubBites" (267 : Nat) (-1000000 : Int32)) ∈ lw_all := lw_g (lw_at lw_m5 224 rfl) rfl
theorem q1330 : (Jvm.Cond.instanceMethod ({ cls := "TubBites", name := "reply", desc := "(I)I" } : Jvm.MethodName)) ∈ lw_all := lw_g (lw_at lw_m5 226 rfl) rfl
theorem q1331 : (Jvm.Cond.selects "TubBites" ({ cls := "TubBites", name := "reply", desc := "(I)I" } : Jvm.MethodName) ({ cls := "TubBites", name := "reply", desc := "(I)I" } : Jvm.MethodName)) ∈ lw_all := lw_g (lw_at lw_m5 227 rfl) rfl
theorem q1332 : (Jvm.Cond.code ({ cls := "TubBites", name := "reply", desc := "(I)I" } : Jvm.MethodName) prog_1_method_31_code (4 : Nat) (Option.some Jvm.ClassFile.FieldType.int)) ∈ lw_all := lw_g (lw_at lw_m5 228 rfl) rfl
theorem q1334 : (Jvm.Cond.instanceMethod ({ cls := "TubBites", name := "lies", desc := "(I)I" } : Jvm.MethodName)) ∈ lw_all := lw_g (lw_at lw_m5 230 rfl) rfl
theorem q1335 : (Jvm.Cond.selects "TubBites" ({ cls := "TubBites", name := "lies", desc := "(I)I" } : Jvm.MethodName) ({ cls := "TubBites", name := "lies", desc := "(I)I" } : Jvm.MethodName)) ∈ lw_all := lw_g (lw_at lw_m5 231 rfl) rfl
theorem q1336 : (Jvm.Cond.code ({ cls := "TubBites", name := "lies", desc := "(I)I" } : Jvm.MethodName) prog_1_method_32_code (2 : Nat) (Option.some Jvm.ClassFile.FieldType.int)) ∈ lw_all := lw_g (lw_at lw_m5 232 rfl) rfl
theorem q1338 : (Jvm.Cond.instanceMethod ({ cls := "TubBites", name := "rests", desc := "()I" } : Jvm.MethodName)) ∈ lw_all := lw_g (lw_at lw_m5 234 rfl) rfl
theorem q1339 : (Jvm.Cond.selects "TubBites" ({ cls := "TubBites", name := "rests", desc := "()I" } : Jvm.MethodName) ({ cls := "TubBites", name := "rests", desc := "()I" } : Jvm.MethodName)) ∈ lw_all := lw_g (lw_at lw_m5 235 rfl) rfl
theorem q1340 : (Jvm.Cond.code ({ cls := "TubBites", name := "rests", desc := "()I" } : Jvm.MethodName) prog_1_method_33_code (6 : Nat) (Option.some Jvm.ClassFile.FieldType.int)) ∈ lw_all := lw_g (lw_at lw_m5 236 rfl) rfl
theorem q1342 : (Jvm.Cond.instanceMethod ({ cls := "TubBites", name := "record", desc := "(III)I" } : Jvm.MethodName)) ∈ lw_all := lw_g (lw_at lw_m5 238 rfl) rfl
theorem q1343 : (Jvm.Cond.selects "TubBites" ({ cls := "TubBites", name := "record", desc := "(III)I" } : Jvm.MethodName) ({ cls := "TubBites", name := "record", desc := "(III)I" } : Jvm.MethodName)) ∈ lw_all := lw_g (lw_at lw_m5 239 rfl) rfl
theorem q1344 : (Jvm.Cond.code ({ cls := "TubBites", name := "record", desc := "(III)I" } : Jvm.MethodName) prog_1_method_34_code (4 : Nat) (Option.some Jvm.ClassFile.FieldType.int)) ∈ lw_all := lw_g (lw_at lw_m6 0 rfl) rfl
theorem q1346 : (Jvm.Cond.instanceMethod ({ cls := "TubBites", name := "easier", desc := "(II)I" } : Jvm.MethodName)) ∈ lw_all := lw_g (lw_at lw_m6 2 rfl) rfl
theorem q1347 : (Jvm.Cond.selects "TubBites" ({ cls := "TubBites", name := "easier", desc := "(II)I" } : Jvm.MethodName) ({ cls := "TubBites", name := "easier", desc := "(II)I" } : Jvm.MethodName)) ∈ lw_all := lw_g (lw_at lw_m6 3 rfl) rfl
theorem q1348 : (Jvm.Cond.code ({ cls := "TubBites", name := "easier", desc := "(II)I" } : Jvm.MethodName) prog_1_method_35_code (6 : Nat) (Option.some Jvm.ClassFile.FieldType.int)) ∈ lw_all := lw_g (lw_at lw_m6 4 rfl) rfl
theorem q1349 : (Jvm.Cond.methodLink "TubBites" (271 : Nat) ({ cls := "TubBites", name := "odds", desc := "(III)I" } : Jvm.MethodName)) ∈ lw_all := lw_g (lw_at lw_m6 5 rfl) rfl
theorem q1351 : (Jvm.Cond.instanceMethod ({ cls := "TubBites", name := "seat", desc := "(III)I" } : Jvm.MethodName)) ∈ lw_all := lw_g (lw_at lw_m6 7 rfl) rfl
theorem q1352 : (Jvm.Cond.selects "TubBites" ({ cls := "TubBites", name := "seat", desc := "(III)I" } : Jvm.MethodName) ({ cls := "TubBites", name := "seat", desc := "(III)I" } : Jvm.MethodName)) ∈ lw_all := lw_g (lw_at lw_m6 8 rfl) rfl
theorem q1353 : (Jvm.Cond.code ({ cls := "TubBites", name := "seat", desc := "(III)I" } : Jvm.MethodName) prog_1_method_37_code (12 : Nat) (Option.some Jvm.ClassFile.FieldType.int)) ∈ lw_all := lw_g (lw_at lw_m6 9 rfl) rfl
theorem q1354 : (Jvm.Cond.methodLink "TubBites" (282 : Nat) ({ cls := "TubBites$Water", name := "isRim", desc := "(II)Z" } : Jvm.MethodName)) ∈ lw_all := lw_g (lw_at lw_m6 10 rfl) rfl
theorem q1355 : (Jvm.Cond.methodLink "TubBites" (286 : Nat) ({ cls := "TubBites", name := "gets", desc := "(II)I" } : Jvm.MethodName)) ∈ lw_all := lw_g (lw_at lw_m6 11 rfl) rfl
theorem q1356 : (Jvm.Cond.privateMethod ({ cls := "TubBites", name := "gets", desc := "(II)I" } : Jvm.MethodName)) ∈ lw_tbl := lw_at lw_m6 12 rfl
theorem q1357 : (Jvm.Cond.instanceMethod ({ cls := "TubBites", name := "gets", desc := "(II)I" } : Jvm.MethodName)) ∈ lw_all := lw_g (lw_at lw_m6 13 rfl) rfl
theorem q1358 : (Jvm.Cond.code ({ cls := "TubBites", name := "gets", desc := "(II)I" } : Jvm.MethodName) prog_1_method_36_code (5 : Nat) (Option.some Jvm.ClassFile.FieldType.int)) ∈ lw_all := lw_g (lw_at lw_m6 14 rfl) rfl
theorem q1360 : (Jvm.Cond.instanceMethod ({ cls := "TubBites", name := "order", desc := "(I)I" } : Jvm.MethodName)) ∈ lw_all := lw_g (lw_at lw_m6 16 rfl) rfl
theorem q1361 : (Jvm.Cond.selects "TubBites" ({ cls := "TubBites", name := "order", desc := "(I)I" } : Jvm.MethodName) ({ cls := "TubBites", name := "order", desc := "(I)I" } : Jvm.MethodName)) ∈ lw_all := lw_g (lw_at lw_m6 17 rfl) rfl
theorem q1362 : (Jvm.Cond.code ({ cls := "TubBites", name := "order", desc := "(I)I" } : Jvm.MethodName) prog_1_method_39_code (3 : Nat) (Option.some Jvm.ClassFile.FieldType.int)) ∈ lw_all := lw_g (lw_at lw_m6 18 rfl) rfl
theorem q1363 : (Jvm.Cond.methodLink "TubBites" (295 : Nat) ({ cls := "TubBites", name := "orders", desc := "(IIII)I" } : Jvm.MethodName)) ∈ lw_all := lw_g (lw_at lw_m6 19 rfl) rfl
theorem q1364 : (Jvm.Cond.privateMethod ({ cls := "TubBites", name := "orders", desc := "(IIII)I" } : Jvm.MethodName)) ∈ lw_tbl := lw_at lw_m6 20 rfl
theorem q1365 : (Jvm.Cond.instanceMethod ({ cls := "TubBites", name := "orders", desc := "(IIII)I" } : Jvm.MethodName)) ∈ lw_all := lw_g (lw_at lw_m6 21 rfl) rfl
theorem q1366 : (Jvm.Cond.code ({ cls := "TubBites", name := "orders", desc := "(IIII)I" } : Jvm.MethodName) prog_1_method_38_code (8 : Nat) (Option.some Jvm.ClassFile.FieldType.int)) ∈ lw_all := lw_g (lw_at lw_m6 22 rfl) rfl
theorem q1367 : (Jvm.Cond.methodLink "TubBites" (289 : Nat) ({ cls := "java/lang/System", name := "arraycopy", desc := "(Ljava/lang/Object;ILjava/lang/Object;II)V" } : Jvm.MethodName)) ∈ lw_all := lw_g (lw_at lw_m6 23 rfl) rfl
theorem q1369 : (Jvm.Cond.instanceMethod ({ cls := "TubBites", name := "drives", desc := "(III)I" } : Jvm.MethodName)) ∈ lw_all := lw_g (lw_at lw_m6 25 rfl) rfl
theorem q1370 : (Jvm.Cond.selects "TubBites" ({ cls := "TubBites", name := "drives", desc := "(III)I" } : Jvm.MethodName) ({ cls := "TubBites", name := "drives", desc := "(III)I" } : Jvm.MethodName)) ∈ lw_all := lw_g (lw_at lw_m6 26 rfl) rfl
theorem q1371 : (Jvm.Cond.code ({ cls := "TubBites", name := "drives", desc := "(III)I" } : Jvm.MethodName) prog_1_method_41_code (5 : Nat) (Option.some Jvm.ClassFile.FieldType.int)) ∈ lw_all := lw_g (lw_at lw_m6 27 rfl) rfl
theorem q1372 : (Jvm.Cond.methodLink "TubBites" (299 : Nat) ({ cls := "TubBites", name := "driven", desc := "(LTubBites$Bobber;LTubBites$Bobber;LTubBites$Apple;II)Z" } : Jvm.MethodName)) ∈ lw_all := lw_g (lw_at lw_m6 28 rfl) rfl
theorem q1373 : (Jvm.Cond.privateMethod ({ cls := "TubBites", name := "driven", desc := "(LTubBites$Bobber;LTubBites$Bobber;LTubBites$Apple;II)Z" } : Jvm.MethodName)) ∈ lw_tbl := lw_at lw_m6 29 rfl
theorem q1374 : (Jvm.Cond.instanceMethod ({ cls := "TubBites", name := "driven", desc := "(LTubBites$Bobber;LTubBites$Bobber;LTubBites$Apple;II)Z" } : Jvm.MethodName)) ∈ lw_all := lw_g (lw_at lw_m6 30 rfl) rfl
theorem q1375 : (Jvm.Cond.code ({ cls := "TubBites", name := "driven", desc := "(LTubBites$Bobber;LTubBites$Bobber;LTubBites$Apple;II)Z" } : Jvm.MethodName) prog_1_method_40_code (9 : Nat) (Option.some Jvm.ClassFile.FieldType.boolean)) ∈ lw_all := lw_g (lw_at lw_m6 31 rfl) rfl
theorem q1377 : (Jvm.Cond.instanceMethod ({ cls := "TubBites", name := "gone", desc := "(I)I" } : Jvm.MethodName)) ∈ lw_all := lw_g (lw_at lw_m6 33 rfl) rfl
theorem q1378 : (Jvm.Cond.selects "TubBites" ({ cls := "TubBites", name := "gone", desc := "(I)I" } : Jvm.MethodName) ({ cls := "TubBites", name := "gone", desc := "(I)I" } : Jvm.MethodName)) ∈ lw_all := lw_g (lw_at lw_m6 34 rfl) rfl
theorem q1379 : (Jvm.Cond.code ({ cls := "TubBites", name := "gone", desc := "(I)I" } : Jvm.MethodName) prog_1_method_44_code (3 : Nat) (Option.some Jvm.ClassFile.FieldType.int)) ∈ lw_all := lw_g (lw_at lw_m6 35 rfl) rfl
theorem q1380 : (Jvm.Cond.methodLink "TubBites" (306 : Nat) ({ cls := "TubBites", name := "inTub", desc := "()I" } : Jvm.MethodName)) ∈ lw_all := lw_g (lw_at lw_m6 36 rfl) rfl
theorem q1381 : (Jvm.Cond.privateMethod ({ cls := "TubBites", name := "inTub", desc := "()I" } : Jvm.MethodName)) ∈ lw_tbl := lw_at lw_m6 37 rfl
theorem q1382 : (Jvm.Cond.instanceMethod ({ cls := "TubBites", name := "inTub", desc := "()I" } : Jvm.MethodName)) ∈ lw_all := lw_g (lw_at lw_m6 38 rfl) rfl
theorem q1383 : (Jvm.Cond.code ({ cls := "TubBites", name := "inTub", desc := "()I" } : Jvm.MethodName) prog_1_method_43_code (3 : Nat) (Option.some Jvm.ClassFile.FieldType.int)) ∈ lw_all := lw_g (lw_at lw_m6 39 rfl) rfl
theorem q1384 : (Jvm.Cond.methodLink "TubBites" (309 : Nat) ({ cls := "TubBites", name := "goneBy", desc := "(II)I" } : Jvm.MethodName)) ∈ lw_all := lw_g (lw_at lw_m6 40 rfl) rfl
theorem q1385 : (Jvm.Cond.privateMethod ({ cls := "TubBites", name := "goneBy", desc := "(II)I" } : Jvm.MethodName)) ∈ lw_tbl := lw_at lw_m6 41 rfl
theorem q1386 : (Jvm.Cond.instanceMethod ({ cls := "TubBites", name := "goneBy", desc := "(II)I" } : Jvm.MethodName)) ∈ lw_all := lw_g (lw_at lw_m6 42 rfl) rfl
theorem q1387 : (Jvm.Cond.code ({ cls := "TubBites", name := "goneBy", desc := "(II)I" } : Jvm.MethodName) prog_1_method_42_code (5 : Nat) (Option.some Jvm.ClassFile.FieldType.int)) ∈ lw_all := lw_g (lw_at lw_m6 43 rfl) rfl
theorem q1388 : (Jvm.Cond.methodLink "TubBites" (303 : Nat) ({ cls := "TubBites$Water", name := "left", desc := "()I" } : Jvm.MethodName)) ∈ lw_all := lw_g (lw_at lw_m6 44 rfl) rfl
theorem q1393 : (Jvm.Cond.instanceMethod ({ cls := "TubBites", name := "provide", desc := "(II)I" } : Jvm.MethodName)) ∈ lw_all := lw_g (lw_at lw_m6 49 rfl) rfl
theorem q1394 : (Jvm.Cond.selects "TubBites" ({ cls := "TubBites", name := "provide", desc := "(II)I" } : Jvm.MethodName) ({ cls := "TubBites", name := "provide", desc := "(II)I" } : Jvm.MethodName)) ∈ lw_all := lw_g (lw_at lw_m6 50 rfl) rfl
theorem q1395 : (Jvm.Cond.code ({ cls := "TubBites", name := "provide", desc := "(II)I" } : Jvm.MethodName) prog_1_method_45_code (6 : Nat) (Option.some Jvm.ClassFile.FieldType.int)) ∈ lw_all := lw_g (lw_at lw_m6 51 rfl) rfl
theorem q1396 : (Jvm.Cond.methodLink "TubBites" (312 : Nat) ({ cls := "java/lang/Integer", name := "bitCount", desc := "(I)I" } : Jvm.MethodName)) ∈ lw_all := lw_g (lw_at lw_m6 52 rfl) rfl
theorem q1403 : (Jvm.Cond.instanceMethod ({ cls := "TubBites", name := "waves", desc := "(III)I" } : Jvm.MethodName)) ∈ lw_all := lw_g (lw_at lw_m6 59 rfl) rfl
theorem q1404 : (Jvm.Cond.selects "TubBites" ({ cls := "TubBites", name := "waves", desc := "(III)I" } : Jvm.MethodName) ({ cls := "TubBites", name := "waves", desc := "(III)I" } : Jvm.MethodName)) ∈ lw_all := lw_g (lw_at lw_m6 60 rfl) rfl
theorem q1405 : (Jvm.Cond.code ({ cls := "TubBites", name := "waves", desc := "(III)I" } : Jvm.MethodName) prog_1_method_46_code (10 : Nat) (Option.some Jvm.ClassFile.FieldType.int)) ∈ lw_all := lw_g (lw_at lw_m6 61 rfl) rfl
theorem q1406 : (Jvm.Cond.methodLink "TubBites" (317 : Nat) ({ cls := "TubBites$Water", name := "isCell", desc := "(II)Z" } : Jvm.MethodName)) ∈ lw_all := lw_g (lw_at lw_m6 62 rfl) rfl
theorem q1408 : (Jvm.Cond.instanceMethod ({ cls := "TubBites", name := "fill", desc := "(III)I" } : Jvm.MethodName)) ∈ lw_all := lw_g (lw_at lw_m6 64 rfl) rfl
theorem q1409 : (Jvm.Cond.selects "TubBites" ({ cls := "TubBites", name := "fill", desc := "(III)I" } : Jvm.MethodName) ({ cls := "TubBites", name := "fill", desc := "(III)I" } : Jvm.MethodName)) ∈ lw_all := lw_g (lw_at lw_m6 65 rfl) rfl
theorem q1410 : (Jvm.Cond.code ({ cls := "TubBites", name := "fill", desc := "(III)I" } : Jvm.MethodName) prog_1_method_48_code (11 : Nat) (Option.some Jvm.ClassFile.FieldType.int)) ∈ lw_all := lw_g (lw_at lw_m6 66 rfl) rfl
theorem q1411 : (Jvm.Cond.methodLink "TubBites" (320 : Nat) ({ cls := "TubBites", name := "lasts", desc := "(LTubBites$Bobber;LTubBites$Apple;)I" } : Jvm.MethodName)) ∈ lw_all := lw_g (lw_at lw_m6 67 rfl) rfl
theorem q1412 : (Jvm.Cond.privateMethod ({ cls := "TubBites", name := "lasts", desc := "(LTubBites$Bobber;LTubBites$Apple;)I" } : Jvm.MethodName)) ∈ lw_tbl := lw_at lw_m6 68 rfl
theorem q1413 : (Jvm.Cond.instanceMethod ({ cls := "TubBites", name := "lasts", desc := "(LTubBites$Bobber;LTubBites$Apple;)I" } : Jvm.MethodName)) ∈ lw_all := lw_g (lw_at lw_m6 69 rfl) rfl
theorem q1414 : (Jvm.Cond.code ({ cls := "TubBites", name := "lasts", desc := "(LTubBites$Bobber;LTubBites$Apple;)I" } : Jvm.MethodName) prog_1_method_47_code (4 : Nat) (Option.some Jvm.ClassFile.FieldType.int)) ∈ lw_all := lw_g (lw_at lw_m6 70 rfl) rfl
theorem q1416 : (Jvm.Cond.instanceMethod ({ cls := "TubBites", name := "coin", desc := "(II)I" } : Jvm.MethodName)) ∈ lw_all := lw_g (lw_at lw_m6 72 rfl) rfl
theorem q1417 : (Jvm.Cond.selects "TubBites" ({ cls := "TubBites", name := "coin", desc := "(II)I" } : Jvm.MethodName) ({ cls := "TubBites", name := "coin", desc := "(II)I" } : Jvm.MethodName)) ∈ lw_all := lw_g (lw_at lw_m6 73 rfl) rfl
theorem q1418 : (Jvm.Cond.code ({ cls := "TubBites", name := "coin", desc := "(II)I" } : Jvm.MethodName) prog_1_method_50_code (5 : Nat) (Option.some Jvm.ClassFile.FieldType.int)) ∈ lw_all := lw_g (lw_at lw_m6 74 rfl) rfl
theorem q1419 : (Jvm.Cond.methodLink "TubBites" (324 : Nat) ({ cls := "TubBites", name := "common", desc := "(II)I" } : Jvm.MethodName)) ∈ lw_all := lw_g (lw_at lw_m6 75 rfl) rfl
theorem q1420 : (Jvm.Cond.static ({ cls := "TubBites", name := "common", desc := "(II)I" } : Jvm.MethodName)) ∈ lw_all := lw_g (lw_at lw_m6 76 rfl) rfl
theorem q1421 : (Jvm.Cond.code ({ cls := "TubBites", name := "common", desc := "(II)I" } : Jvm.MethodName) prog_1_method_49_code (2 : Nat) (Option.some Jvm.ClassFile.FieldType.int)) ∈ lw_all := lw_g (lw_at lw_m6 77 rfl) rfl
theorem q1423 : (Jvm.Cond.instanceMethod ({ cls := "TubBites", name := "pick", desc := "(III)I" } : Jvm.MethodName)) ∈ lw_all := lw_g (lw_at lw_m6 79 rfl) rfl
theorem q1424 : (Jvm.Cond.selects "TubBites" ({ cls := "TubBites", name := "pick", desc := "(III)I" } : Jvm.MethodName) ({ cls := "TubBites", name := "pick", desc := "(III)I" } : Jvm.MethodName)) ∈ lw_all := lw_g (lw_at lw_m6 80 rfl) rfl
theorem q1425 : (Jvm.Cond.code ({ cls := "TubBites", name := "pick", desc := "(III)I" } : Jvm.MethodName) prog_1_method_51_code (4 : Nat) (Option.some Jvm.ClassFile.FieldType.int)) ∈ lw_all := lw_g (lw_at lw_m6 81 rfl) rfl
theorem q1426 : (Jvm.Cond.classLink "TubBites" (330 : Nat) "TubBites$Pick") ∈ lw_all := lw_g (lw_at lw_m6 82 rfl) rfl
theorem q1428 : (Jvm.Cond.methodLink "TubBites" (335 : Nat) ({ cls := "TubBites$Pick", name := "<init>", desc := "(IIII)V" } : Jvm.MethodName)) ∈ lw_all := lw_g (lw_at lw_m6 84 rfl) rfl
theorem q1433 : (Jvm.Cond.fieldLinkNest "TubBites" (342 : Nat) "TubBites$Pick" "bobber" "I" "TubBites") ∈ lw_tbl := lw_at lw_m6 89 rfl
theorem q1435 : (Jvm.Cond.fieldLinkNest "TubBites" (345 : Nat) "TubBites$Pick" "set" "I" "TubBites") ∈ lw_tbl := lw_at lw_m6 91 rfl
theorem q1437 : (Jvm.Cond.fieldLinkNest "TubBites" (352 : Nat) "TubBites$Pick" "taken" "I" "TubBites") ∈ lw_tbl := lw_at lw_m6 93 rfl
theorem q1440 : (Jvm.Cond.fieldLinkNest "TubBites" (338 : Nat) "TubBites$Pick" "untold" "I" "TubBites") ∈ lw_tbl := lw_at lw_m6 96 rfl
theorem q1453 : (Jvm.Cond.instanceMethod ({ cls := "TubBites", name := "untell", desc := "(I)Z" } : Jvm.MethodName)) ∈ lw_all := lw_g (lw_at lw_m6 109 rfl) rfl
theorem q1454 : (Jvm.Cond.selects "TubBites" ({ cls := "TubBites", name := "untell", desc := "(I)Z" } : Jvm.MethodName) ({ cls := "TubBites", name := "untell", desc := "(I)Z" } : Jvm.MethodName)) ∈ lw_all := lw_g (lw_at lw_m6 110 rfl) rfl
theorem q1455 : (Jvm.Cond.code ({ cls := "TubBites", name := "untell", desc := "(I)Z" } : Jvm.MethodName) prog_1_method_52_code (2 : Nat) (Option.some Jvm.ClassFile.FieldType.boolean)) ∈ lw_all := lw_g (lw_at lw_m6 111 rfl) rfl
theorem q1457 : (Jvm.Cond.instanceMethod ({ cls := "TubBites", name := "later", desc := "(I)I" } : Jvm.MethodName)) ∈ lw_all := lw_g (lw_at lw_m6 113 rfl) rfl
theorem q1458 : (Jvm.Cond.selects "TubBites" ({ cls := "TubBites", name := "later", desc := "(I)I" } : Jvm.MethodName) ({ cls := "TubBites", name := "later", desc := "(I)I" } : Jvm.MethodName)) ∈ lw_all := lw_g (lw_at lw_m6 114 rfl) rfl
theorem q1459 : (Jvm.Cond.code ({ cls := "TubBites", name := "later", desc := "(I)I" } : Jvm.MethodName) prog_1_method_53_code (2 : Nat) (Option.some Jvm.ClassFile.FieldType.int)) ∈ lw_all := lw_g (lw_at lw_m6 115 rfl) rfl
theorem q1460 : (Jvm.Cond.constant "TubBites" (341 : Nat) (100000 : Int32)) ∈ lw_all := lw_g (lw_at lw_m6 116 rfl) rfl
theorem q1462 : (Jvm.Cond.instanceMethod ({ cls := "TubBites", name := "fits", desc := "(I)I" } : Jvm.MethodName)) ∈ lw_all := lw_g (lw_at lw_m6 118 rfl) rfl
theorem q1463 : (Jvm.Cond.selects "TubBites" ({ cls := "TubBites", name := "fits", desc := "(I)I" } : Jvm.MethodName) ({ cls := "TubBites", name := "fits", desc := "(I)I" } : Jvm.MethodName)) ∈ lw_all := lw_g (lw_at lw_m6 119 rfl) rfl
theorem q1464 : (Jvm.Cond.code ({ cls := "TubBites", name := "fits", desc := "(I)I" } : Jvm.MethodName) prog_1_method_55_code (5 : Nat) (Option.some Jvm.ClassFile.FieldType.int)) ∈ lw_all := lw_g (lw_at lw_m6 120 rfl) rfl
theorem q1465 : (Jvm.Cond.methodLink "TubBites" (355 : Nat) ({ cls := "TubBites$Water", name := "begin", desc := "()V" } : Jvm.MethodName)) ∈ lw_all := lw_g (lw_at lw_m6 121 rfl) rfl
theorem q1466 : (Jvm.Cond.methodLink "TubBites" (356 : Nat) ({ cls := "TubBites", name := "wrongBy", desc := "(LTubBites$Rule;I)I" } : Jvm.MethodName)) ∈ lw_all := lw_g (lw_at lw_m6 122 rfl) rfl
theorem q1467 : (Jvm.Cond.privateMethod ({ cls := "TubBites", name := "wrongBy", desc := "(LTubBites$Rule;I)I" } : Jvm.MethodName)) ∈ lw_tbl := lw_at lw_m6 123 rfl
theorem q1468 : (Jvm.Cond.instanceMethod ({ cls := "TubBites", name := "wrongBy", desc := "(LTubBites$Rule;I)I" } : Jvm.MethodName)) ∈ lw_all := lw_g (lw_at lw_m6 124 rfl) rfl
theorem q1469 : (Jvm.Cond.code ({ cls := "TubBites", name := "wrongBy", desc := "(LTubBites$Rule;I)I" } : Jvm.MethodName) prog_1_method_56_code (5 : Nat) (Option.some Jvm.ClassFile.FieldType.int)) ∈ lw_all := lw_g (lw_at lw_m6 125 rfl) rfl
theorem q1470 : (Jvm.Cond.methodLink "TubBites" (360 : Nat) ({ cls := "TubBites$Pick", name := "counts", desc := "(I)Z" } : Jvm.MethodName)) ∈ lw_all := lw_g (lw_at lw_m6 126 rfl) rfl
theorem q1474 : (Jvm.Cond.methodLink "TubBites" (363 : Nat) ({ cls := "TubBites", name := "doesTake", desc := "(LTubBites$Rule;LTubBites$Pick;)Z" } : Jvm.MethodName)) ∈ lw_all := lw_g (lw_at lw_m6 130 rfl) rfl
theorem q1475 : (Jvm.Cond.privateMethod ({ cls := "TubBites", name := "doesTake", desc := "(LTubBites$Rule;LTubBites$Pick;)Z" } : Jvm.MethodName)) ∈ lw_tbl := lw_at lw_m6 131 rfl
theorem q1476 : (Jvm.Cond.instanceMethod ({ cls := "TubBites", name := "doesTake", desc := "(LTubBites$Rule;LTubBites$Pick;)Z" } : Jvm.MethodName)) ∈ lw_all := lw_g (lw_at lw_m6 132 rfl) rfl
theorem q1477 : (Jvm.Cond.code ({ cls := "TubBites", name := "doesTake", desc := "(LTubBites$Rule;LTubBites$Pick;)Z" } : Jvm.MethodName) prog_1_method_54_code (8 : Nat) (Option.some Jvm.ClassFile.FieldType.boolean)) ∈ lw_all := lw_g (lw_at lw_m6 133 rfl) rfl
theorem q1478 : (Jvm.Cond.methodLink "TubBites" (348 : Nat) ({ cls := "TubBites$Water", name := "value", desc := "(LTubBites$Rule;LTubBites$Bobber;LTubBites$Apple;I)I" } : Jvm.MethodName)) ∈ lw_all := lw_g (lw_at lw_m6 134 rfl) rfl
theorem q1480 : (Jvm.Cond.instanceMethod ({ cls := "TubBites", name := "nearest", desc := "(II)I" } : Jvm.MethodName)) ∈ lw_all := lw_g (lw_at lw_m6 136 rfl) rfl
theorem q1481 : (Jvm.Cond.selects "TubBites" ({ cls := "TubBites", name := "nearest", desc := "(II)I" } : Jvm.MethodName) ({ cls := "TubBites", name := "nearest", desc := "(II)I" } : Jvm.MethodName)) ∈ lw_all := lw_g (lw_at lw_m6 137 rfl) rfl
theorem q1482 : (Jvm.Cond.code ({ cls := "TubBites", name := "nearest", desc := "(II)I" } : Jvm.MethodName) prog_1_method_57_code (6 : Nat) (Option.some Jvm.ClassFile.FieldType.int)) ∈ lw_all := lw_g (lw_at lw_m6 138 rfl) rfl
theorem q1484 : (Jvm.Cond.instanceMethod ({ cls := "TubBites", name := "chance", desc := "(I)J" } : Jvm.MethodName)) ∈ lw_all := lw_g (lw_at lw_m6 140 rfl) rfl
theorem q1485 : (Jvm.Cond.selects "TubBites" ({ cls := "TubBites", name := "chance", desc := "(I)J" } : Jvm.MethodName) ({ cls := "TubBites", name := "chance", desc := "(I)J" } : Jvm.MethodName)) ∈ lw_all := lw_g (lw_at lw_m6 141 rfl) rfl
theorem q1486 : (Jvm.Cond.code ({ cls := "TubBites", name := "chance", desc := "(I)J" } : Jvm.MethodName) prog_1_method_58_code (5 : Nat) (Option.some Jvm.ClassFile.FieldType.long)) ∈ lw_all := lw_g (lw_at lw_m6 142 rfl) rfl
theorem q1487 : (Jvm.Cond.constantLong "TubBites" (367 : Nat) (1000000000000000 : Int64)) ∈ lw_all := lw_g (lw_at lw_m6 143 rfl) rfl
theorem q1489 : (Jvm.Cond.instanceMethod ({ cls := "TubBites", name := "image", desc := "(I)I" } : Jvm.MethodName)) ∈ lw_all := lw_g (lw_at lw_m6 145 rfl) rfl
theorem q1490 : (Jvm.Cond.selects "TubBites" ({ cls := "TubBites", name := "image", desc := "(I)I" } : Jvm.MethodName) ({ cls := "TubBites", name := "image", desc := "(I)I" } : Jvm.MethodName)) ∈ lw_all := lw_g (lw_at lw_m6 146 rfl) rfl
theorem q1491 : (Jvm.Cond.code ({ cls := "TubBites", name := "image", desc := "(I)I" } : Jvm.MethodName) prog_1_method_59_code (2 : Nat) (Option.some Jvm.ClassFile.FieldType.int)) ∈ lw_all := lw_g (lw_at lw_m6 147 rfl) rfl
theorem q1493 : (Jvm.Cond.instanceMethod ({ cls := "TubBites", name := "back", desc := "(I)I" } : Jvm.MethodName)) ∈ lw_all := lw_g (lw_at lw_m6 149 rfl) rfl
theorem q1494 : (Jvm.Cond.selects "TubBites" ({ cls := "TubBites", name := "back", desc := "(I)I" } : Jvm.MethodName) ({ cls := "TubBites", name := "back", desc := "(I)I" } : Jvm.MethodName)) ∈ lw_all := lw_g (lw_at lw_m6 150 rfl) rfl
theorem q1495 : (Jvm.Cond.code ({ cls := "TubBites", name := "back", desc := "(I)I" } : Jvm.MethodName) prog_1_method_60_code (2 : Nat) (Option.some Jvm.ClassFile.FieldType.int)) ∈ lw_all := lw_g (lw_at lw_m6 151 rfl) rfl
theorem q1497 : (Jvm.Cond.instanceMethod ({ cls := "TubBites", name := "about", desc := "(I)I" } : Jvm.MethodName)) ∈ lw_all := lw_g (lw_at lw_m6 153 rfl) rfl
theorem q1498 : (Jvm.Cond.selects "TubBites" ({ cls := "TubBites", name := "about", desc := "(I)I" } : Jvm.MethodName) ({ cls := "TubBites", name := "about", desc := "(I)I" } : Jvm.MethodName)) ∈ lw_all := lw_g (lw_at lw_m6 154 rfl) rfl
theorem q1499 : (Jvm.Cond.code ({ cls := "TubBites", name := "about", desc := "(I)I" } : Jvm.MethodName) prog_1_method_61_code (2 : Nat) (Option.some Jvm.ClassFile.FieldType.int)) ∈ lw_all := lw_g (lw_at lw_m6 155 rfl) rfl
theorem q2367 : (Jvm.Cond.castable "TubBites" "java/lang/Object") ∈ lw_tbl := lw_at lw_m10 63 rfl
theorem in_X0 : ∀ w ∈ wsX00, w ∈ lw_all := lw_in wsX00 [329, 331, 333, 335, 337, 339, 341, 343, 345, 347, 349, 351, 353, 355, 357, 359] (by decide +kernel) (by decide +kernel)
